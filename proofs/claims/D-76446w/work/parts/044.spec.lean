/-! SPEC: what both classes compute, in plain words. Texts: positions are naturals, bytes are ints, -1 behind the end -/
abbrev pp_T : Type := Nat × Int32 × Nat × Nat
abbrev pp_F : Type := (Nat → Int32) → Int32
abbrev pp_R : Type := Nat ⊕ (pp_F × pp_T)
def pp_at (b : Nat → Int32) (n k : Nat) : Int32 := if k < n then b k else -1
def pp_ws (b : Nat → Int32) (n : Nat) : Nat → Nat → Nat
  | 0, k => k
  | f + 1, k => if pp_at b n k = 32 ∨ pp_at b n k = 10 then pp_ws b n f (k + 1) else k
abbrev pp_isL (c : Int32) : Prop := 97 ≤ c.toInt ∧ c.toInt ≤ 122
abbrev pp_isD (c : Int32) : Prop := 48 ≤ c.toInt ∧ c.toInt ≤ 57
def pp_sl (b : Nat → Int32) (n : Nat) : Nat → Nat → Nat
  | 0, k => k
  | f + 1, k => if pp_isL (pp_at b n k) then pp_sl b n f (k + 1) else k
def pp_sd (b : Nat → Int32) (n : Nat) : Nat → Nat → Nat
  | 0, k => k
  | f + 1, k => if pp_isD (pp_at b n k) then pp_sd b n f (k + 1) else k
/-- the number that stands from s to e (at most four digits count) -/
def pp_nv (b : Nat → Int32) (s : Nat) : Nat → Int32
  | 0 => 0
  | k + 1 => if k < 4 then 10 * pp_nv b s k + b (s + k) - 48 else pp_nv b s k
/-- the words: six keys, six names -/
def pp_w : Nat → List Int32 := fun k => match k with
  | 0 => [116, 97, 107, 101, 115]
  | 1 => [107, 101, 101, 112, 115]
  | 2 => [115, 104, 97, 107, 101, 115]
  | 3 => [111, 114]
  | 4 => [97, 110, 100]
  | 5 => [110, 111, 116]
  | 6 => [103, 97, 112]
  | 7 => [110, 116, 104]
  | 8 => [110, 117, 109, 98, 101, 114]
  | 9 => [110, 105, 103, 104, 116]
  | 10 => [97, 112, 114, 111, 110]
  | _ => [114, 111, 119]
/-- the word from s to e is the k-th -/
abbrev pp_is (b : Nat → Int32) (s e k : Nat) : Prop := e - s = (pp_w k).length ∧ ∀ i, i < e - s → (pp_w k)[i]? = some (b (s + i))
def pp_id (b : Nat → Int32) (s e : Nat) : Nat → Nat
  | 0 => 12
  | f + 1 => if pp_is b s e (11 - f) then 11 - f else pp_id b s e f
/-- which word it is; 12: none -/
def pp_wd (b : Nat → Int32) (s e : Nat) : Nat := pp_id b s e 12
abbrev pp_sg (c : Int32) : Prop := c = 40 ∨ c = 41 ∨ c = 59 ∨ c = 43 ∨ c = 45 ∨ c = 42 ∨ c = 60 ∨ c = 61
/-- the token that begins behind blanks at k: kind (0 end, 1 key, 2 name, 3 number, 4 sign, 5 wrong), worth, begin, end -/
def pp_lx (b : Nat → Int32) (n k : Nat) : pp_T :=
  let s := pp_ws b n (n + 1) k
  let c := pp_at b n s
  if c = -1 then (0, 0, s, s)
  else if pp_isL c then
    let e := pp_sl b n (n + 1) s
    let w := pp_wd b s e
    if w < 6 then (1, nI w, s, e) else if w < 12 then (2, nI (w - 6), s, e) else (5, 0, s, e)
  else if pp_isD c then
    let e := pp_sd b n (n + 1) s
    if e - s ≤ 4 then (3, pp_nv b s (e - s), s, e) else (5, 0, s, e)
  else if pp_sg c then (4, c, s, s + 1) else (5, 0, s, s + 1)
abbrev pp_key (t : pp_T) (k : Nat) : Prop := t.1 = 1 ∧ t.2.1 = nI k
abbrev pp_sgn (t : pp_T) (c : Int32) : Prop := t.1 = 4 ∧ t.2.1 = c
def pp_b1 (p : Prop) [Decidable p] : Int32 := if p then 1 else 0
/-- loops of one rank: as long as 'sel' finds a sign, one more -/
def pp_lp (lx : Nat → pp_T) (sel : pp_T → Option (Int32 → Int32 → Int32)) (sub : pp_T → pp_R) : Nat → pp_F → pp_T → pp_R
  | 0, f, t => .inr (f, t)
  | n + 1, f, t => match sel t with
    | none => .inr (f, t)
    | some g => match sub (lx t.2.2.2) with
      | .inl p => .inl p
      | .inr (h, t2) => pp_lp lx sel sub n (fun e => g (f e) (h e)) t2
def pp_rk (lx : Nat → pp_T) (n : Nat) (sel : pp_T → Option (Int32 → Int32 → Int32)) (sub : pp_T → pp_R) (t : pp_T) : pp_R := match sub t with
  | .inl p => .inl p
  | .inr (f, t1) => pp_lp lx sel sub n f t1
def pp_s1 (t : pp_T) : Option (Int32 → Int32 → Int32) := if pp_sgn t 42 then some (fun x y => x * y) else none
def pp_s2 (t : pp_T) : Option (Int32 → Int32 → Int32) := if pp_sgn t 43 then some (fun x y => x + y) else if pp_sgn t 45 then some (fun x y => x - y) else none
def pp_s4 (t : pp_T) : Option (Int32 → Int32 → Int32) := if pp_key t 4 then some (fun x y => pp_b1 (x ≠ 0 ∧ y ≠ 0)) else none
def pp_s5 (t : pp_T) : Option (Int32 → Int32 → Int32) := if pp_key t 3 then some (fun x y => pp_b1 (x ≠ 0 ∨ y ≠ 0)) else none
/-- an atom; 'sub': what may stand one deeper (atom, either), if anything may -/
def pp_atom (lx : Nat → pp_T) (sub : Option ((pp_T → pp_R) × (pp_T → pp_R))) (t : pp_T) : pp_R :=
  if pp_sgn t 45 then match sub with
    | none => .inl t.2.2.1
    | some q => match q.1 (lx t.2.2.2) with
      | .inl p => .inl p
      | .inr (f, t2) => .inr (fun e => -f e, t2)
  else if pp_sgn t 40 then match sub with
    | none => .inl t.2.2.1
    | some q => match q.2 (lx t.2.2.2) with
      | .inl p => .inl p
      | .inr (f, t2) => if pp_sgn t2 41 then .inr (f, lx t2.2.2.2) else .inl t2.2.2.1
  else if t.1 = 3 then .inr (fun _ => t.2.1, lx t.2.2.2)
  else if t.1 = 2 then .inr (fun e => e t.2.1.toNatClampNeg, lx t.2.2.2)
  else .inl t.2.2.1
def pp_not (lx : Nat → pp_T) (sub : Option (pp_T → pp_R)) (plus : pp_T → pp_R) (t : pp_T) : pp_R :=
  if pp_key t 5 then match sub with
    | none => .inl t.2.2.1
    | some q => match q (lx t.2.2.2) with
      | .inl p => .inl p
      | .inr (f, t2) => .inr (fun e => pp_b1 (f e = 0), t2)
  else match plus t with
    | .inl p => .inl p
    | .inr (f, t1) =>
      if pp_sgn t1 60 then match plus (lx t1.2.2.2) with
        | .inl p => .inl p
        | .inr (g, t2) => .inr (fun e => pp_b1 (f e < g e), t2)
      else if pp_sgn t1 61 then match plus (lx t1.2.2.2) with
        | .inl p => .inl p
        | .inr (g, t2) => .inr (fun e => pp_b1 (f e = g e), t2)
      else .inr (f, t1)
/-- with r levels left: atom, term, sum, not, and, or -/
def pp_fam (lx : Nat → pp_T) (n : Nat) : Nat → Nat → pp_T → pp_R
  | 0 => fun i => match i with
    | 0 => pp_atom lx none
    | 1 => pp_rk lx n pp_s1 (pp_atom lx none)
    | 2 => pp_rk lx n pp_s2 (pp_rk lx n pp_s1 (pp_atom lx none))
    | 3 => pp_not lx none (pp_rk lx n pp_s2 (pp_rk lx n pp_s1 (pp_atom lx none)))
    | 4 => pp_rk lx n pp_s4 (pp_not lx none (pp_rk lx n pp_s2 (pp_rk lx n pp_s1 (pp_atom lx none))))
    | _ => pp_rk lx n pp_s5 (pp_rk lx n pp_s4 (pp_not lx none (pp_rk lx n pp_s2 (pp_rk lx n pp_s1 (pp_atom lx none)))))
  | r + 1 => fun i =>
    let A := pp_atom lx (some (pp_fam lx n r 0, pp_fam lx n r 5))
    let P := pp_rk lx n pp_s2 (pp_rk lx n pp_s1 A)
    let N := pp_not lx (some (pp_fam lx n r 3)) P
    match i with
    | 0 => A
    | 1 => pp_rk lx n pp_s1 A
    | 2 => P
    | 3 => N
    | 4 => pp_rk lx n pp_s4 N
    | _ => pp_rk lx n pp_s5 (pp_rk lx n pp_s4 N)
/-- one of a text's three parts, from its key on -/
def pp_part (lx : Nat → pp_T) (n k : Nat) (t : pp_T) : pp_R :=
  if pp_key t k then match pp_fam lx n 5 5 (lx t.2.2.2) with
    | .inl p => .inl p
    | .inr (f, t1) => if pp_sgn t1 59 then .inr (f, lx t1.2.2.2) else .inl t1.2.2.1
  else .inl t.2.2.1
/-- a text: where it fails, or what its parts say -/
def pp_tx (b : Nat → Int32) (n : Nat) : Nat ⊕ (Nat → pp_F) :=
  match pp_part (pp_lx b n) n 0 (pp_lx b n 0) with
  | .inl p => .inl p
  | .inr (f0, t0) => match pp_part (pp_lx b n) n 1 t0 with
    | .inl p => .inl p
    | .inr (f1, t1) => match pp_part (pp_lx b n) n 2 t1 with
      | .inl p => .inl p
      | .inr (f2, t2) => if t2.1 = 0 then .inr (fun k => if k = 0 then f0 else if k = 1 then f1 else f2) else .inl t2.2.2.1
/-! SPEC: rows, runs, what a gleaner takes -/
/-- place k of a row is a gap -/
abbrev pp_gap (b L k : Nat) : Prop := k < L ∧ b.testBit k = false
/-- how many gaps stand from k on -/
def pp_gz (b L k : Nat) : Nat := if h : pp_gap b L k then pp_gz b L (k + 1) + 1 else 0
termination_by L - k
decreasing_by have := h.1; omega
theorem pp_gz_pos {b L k : Nat} (h : pp_gap b L k) : pp_gz b L k = pp_gz b L (k + 1) + 1 := by rw [pp_gz, dif_pos h]
theorem pp_gz_zero {b L k : Nat} (h : ¬ pp_gap b L k) : pp_gz b L k = 0 := by rw [pp_gz, dif_neg h]
theorem pp_gz_le (b L : Nat) : ∀ d k : Nat, L - k ≤ d → k + pp_gz b L k ≤ max k L := by
  intro d
  induction d with
  | zero =>
    intro k h
    rw [pp_gz_zero (fun g => by have := g.1; omega)]
    omega
  | succ d ih =>
    intro k h
    by_cases g : pp_gap b L k
    · rw [pp_gz_pos g]
      have := g.1
      have := ih (k + 1) (by omega)
      omega
    · rw [pp_gz_zero g]
      omega
/-- the runs from k on: where each begins, its size -/
def pp_rn (b L k : Nat) : List (Nat × Nat) :=
  if h : k < L then (if g : pp_gap b L k then (k, pp_gz b L k) :: pp_rn b L (k + pp_gz b L k) else pp_rn b L (k + 1)) else []
termination_by L - k
decreasing_by
  · rw [pp_gz_pos g]; omega
  · omega
theorem pp_rn_end {b L k : Nat} (h : L ≤ k) : pp_rn b L k = [] := by rw [pp_rn, dif_neg (by omega)]
theorem pp_rn_gap {b L k : Nat} (g : pp_gap b L k) : pp_rn b L k = (k, pp_gz b L k) :: pp_rn b L (k + pp_gz b L k) := by rw [pp_rn, dif_pos g.1, dif_pos g]
theorem pp_rn_no {b L k : Nat} (h : k < L) (g : ¬ pp_gap b L k) : pp_rn b L k = pp_rn b L (k + 1) := by rw [pp_rn, dif_pos h, dif_neg g]
/-- how many, at the most -/
theorem pp_rn_len (b L : Nat) : ∀ d k : Nat, L - k ≤ d → (pp_rn b L k).length ≤ L - k := by
  intro d
  induction d with
  | zero =>
    intro k h
    rw [pp_rn_end (by omega)]
    simp
  | succ d ih =>
    intro k h
    by_cases hk : k < L
    · by_cases g : pp_gap b L k
      · rw [pp_rn_gap g, List.length_cons]
        have h1 := pp_gz_pos g
        have := ih (k + pp_gz b L k) (by omega)
        omega
      · rw [pp_rn_no hk g]
        have := ih (k + 1) (by omega)
        omega
    · rw [pp_rn_end (by omega)]
      simp
def pp_runs (b L : Nat) : List (Nat × Nat) := pp_rn b L 0
/-- stalks: how many bits are set -/
def pp_pc : Nat → Nat → Nat
  | 0, _ => 0
  | f + 1, b => b % 2 + pp_pc f (b / 2)
/-- a value held within -/
def pp_cl (lo hi x : Int) : Int := if x < lo then lo else if hi < x then hi else x
/-- what one of a kind takes of g gaps, the text saying v -/
def pp_tk (kd num apr v g : Nat) : Int :=
  if kd = 2 then g else if kd = 4 then (if num ≤ apr then -(num : Int) else g)
  else if kd = 3 ∧ g = 1 then 0
  else min ((if kd = 1 ∨ kd = 3 then v + g % 2 else if kd = 5 then v / 2 else v : Nat) : Int) g
/-- the row with t gaps fewer (or more) at a place: stalks, length -/
def pp_cs (b L p : Nat) (t : Int) : Nat × Nat :=
  if t < 0 then (b % 2 ^ p + (b / 2 ^ p) * 2 ^ (p + t.natAbs), L + t.natAbs)
  else (b % 2 ^ p + (b / 2 ^ (p + t.natAbs)) * 2 ^ p, L - t.natAbs)
/-- gleaning run by run: (stalks, length, apron, how many are gone) and what was taken of each -/
def pp_gl (tk : Nat → Nat → Nat → Nat → Int) : List (Nat × Nat) → Nat → Nat → Nat → Nat → Int → (Nat × Nat × Nat × Int) × List Int
  | [], _, b, L, a, s => ((b, L, a, s), [])
  | (k, z) :: rs, nth, b, L, a, s =>
    let t := max (tk z nth L a) (-(24 - L : Int))
    let q := pp_cs b L (k - s).toNat t
    let r := pp_gl tk rs (nth + 1) q.1 q.2 (pp_cl 0 999 (a + t)).toNat (s + t)
    (r.1, t :: r.2)
