/-! THE REFERENCE'S PARSER: each method reads as the plain words say -/
abbrev mp_e (l : List Nat) (σ' σ : gg_S) : Prop := (∀ i k, i ≠ 0 → gg_g σ' i k = gg_g σ i k) ∧ ∀ k, k ∉ l → gg_g σ' 0 k = gg_g σ 0 k
theorem mp_e_rf {l : List Nat} {σ : gg_S} : mp_e l σ σ := ⟨fun _ _ _ => rfl, fun _ _ => rfl⟩
theorem mp_e_tr {l : List Nat} {a b c : gg_S} (h1 : mp_e l a b) (h2 : mp_e l b c) : mp_e l a c := ⟨fun i k h => (h1.1 i k h).trans (h2.1 i k h), fun k h => (h1.2 k h).trans (h2.2 k h)⟩
theorem mp_e_s {l : List Nat} {σ : gg_S} {k : Nat} {v : Int32} (h : k ∈ l) : mp_e l (gg_s σ 0 k v) σ := by
  refine ⟨fun i q hi => ?_, fun q hq => ?_⟩
  · rw [gg_gs, if_neg (fun t => hi t.1)]
  · rw [gg_gs, if_neg (fun t => hq (by rw [t.2]; exact h))]
theorem mp_e_w {l : List Nat} {σ : gg_S} {v : Int64} : mp_e l (gg_w σ v) σ := ⟨fun _ _ _ => rfl, fun _ _ => rfl⟩
theorem mp_e_mo {l l' : List Nat} {a b : gg_S} (h : mp_e l a b) (hl : ∀ k, k ∈ l → k ∈ l') : mp_e l' a b := ⟨h.1, fun k hk => h.2 k (fun z => hk (hl k z))⟩
theorem mp_es {l : List Nat} {σ' σ : gg_S} {k : Nat} {v : Int32} (h : mp_e l σ' (gg_s σ 0 k v)) (hk : k ∈ l) : mp_e l σ' σ := mp_e_tr h (mp_e_s hk)
theorem mp_ew {l : List Nat} {σ' σ : gg_S} {v : Int64} (h : mp_e l σ' (gg_w σ v)) : mp_e l σ' σ := mp_e_tr h mp_e_w
/-- the text at hand -/
def mp_c (σ : gg_S) (b : Nat → Int32) (n tt : Nat) : Prop := tt < 6 ∧ n ≤ 160 ∧ gg_g σ 0 19 = nI (160 * tt) ∧ gg_g σ 0 20 = nI n ∧ (∀ i, gg_g σ 1 (160 * tt + i) = b i) ∧ pp_by b n
theorem mp_c_e {l : List Nat} {σ' σ : gg_S} {b : Nat → Int32} {n tt : Nat} (c : mp_c σ b n tt) (h : mp_e l σ' σ) (h1 : 19 ∉ l) (h2 : 20 ∉ l) : mp_c σ' b n tt :=
  ⟨c.1, c.2.1, by rw [h.2 19 h1]; exact c.2.2.1, by rw [h.2 20 h2]; exact c.2.2.2.1, fun i => by rw [h.1 1 _ (by decide)]; exact c.2.2.2.2.1 i, c.2.2.2.2.2⟩
theorem mp_c_s {σ : gg_S} {b : Nat → Int32} {n tt k : Nat} {v : Int32} (c : mp_c σ b n tt) (h1 : 19 ≠ k) (h2 : 20 ≠ k) : mp_c (gg_s σ 0 k v) b n tt :=
  mp_c_e (l := [k]) c (mp_e_s (List.mem_singleton.2 rfl)) (fun z => h1 (List.mem_singleton.1 z)) (fun z => h2 (List.mem_singleton.1 z))
theorem mp_c_w {σ : gg_S} {b : Nat → Int32} {n tt : Nat} {v : Int64} (c : mp_c σ b n tt) : mp_c (gg_w σ v) b n tt := mp_c_e (l := []) c mp_e_w (by decide) (by decide)
theorem gg_ot {σ : gg_S} {k q : Nat} {v : Int32} (h : q ≠ k) : gg_g (gg_s σ 0 k v) 0 q = gg_g σ 0 q := by rw [gg_gs, if_neg (fun z => h z.2)]
theorem gg_me {σ : gg_S} {k : Nat} {v : Int32} : gg_g (gg_s σ 0 k v) 0 k = v := by rw [gg_gs, if_pos ⟨rfl, rfl⟩]
def mp_wk (w : Nat) : Nat × Int32 := if w < 6 then (1, nI w) else if w < 12 then (2, nI (w - 6)) else (5, 0)
/-- the token at hand -/
def mp_tk (σ : gg_S) (b : Nat → Int32) (t : pp_T) : Prop := gg_g σ 0 23 = nI t.2.2.1 ∧ (gg_g σ 0 22 ≠ 4 → gg_g σ 0 21 = nI t.2.2.2) ∧
  ((t.1 = 0 ∧ gg_g σ 0 22 = 0) ∨ (gg_g σ 0 22 = 1 ∧ (∀ i, t.2.2.1 ≤ i → i < t.2.2.2 → pp_isL (b i)) ∧ (t.1, t.2.1) = mp_wk (pp_wd b t.2.2.1 t.2.2.2)) ∨
   (t.1 = 3 ∧ gg_g σ 0 22 = 2 ∧ σ.2 = t.2.1.toInt64) ∨ (t.1 = 4 ∧ gg_g σ 0 22 = 3 ∧ σ.2 = t.2.1.toInt64) ∨ (t.1 = 5 ∧ gg_g σ 0 22 = 4))
theorem mp_tk_s {σ : gg_S} {b : Nat → Int32} {t : pp_T} {k : Nat} {v : Int32} (c : mp_tk σ b t) (h1 : 21 ≠ k) (h2 : 22 ≠ k) (h3 : 23 ≠ k) : mp_tk (gg_s σ 0 k v) b t := by
  unfold mp_tk
  rw [gg_ot h1, gg_ot h2, gg_ot h3]
  exact c
/-- the token that begins at s, no blank there -/
def mp_ls (b : Nat → Int32) (n s : Nat) : pp_T :=
  let c := pp_at b n s
  if c = -1 then (0, 0, s, s)
  else if pp_isL c then
    let e := pp_sl b n (n + 1) s
    let w := pp_wd b s e
    if w < 6 then (1, nI w, s, e) else if w < 12 then (2, nI (w - 6), s, e) else (5, 0, s, e)
  else if pp_isD c then
    let e := pp_sd b n (n + 1) s
    if e - s ≤ 4 then (3, pp_nv b s (e - s), s, e) else (5, 0, s, e)
  else if pp_sg c then (4, c, s, s + 1) else (5, 0, s, s + 1)
theorem mp_ls_eq {b : Nat → Int32} {n k : Nat} : pp_lx b n k = mp_ls b n (pp_ws b n (n + 1) k) := rfl
section MP
variable {b : Nat → Int32} {n tt : Nat} {σ : gg_S}
theorem ms_byteAt {Q : Int32 → gg_S → Prop} {k : Nat} (c : mp_c σ b n tt) (hk : k < 2 ^ 30) (hq : Q (pp_at b n k) σ) : mmw_byteAt (nI k) σ Q := by
  obtain ⟨c1, c2, c3, c4, c5, c6⟩ := c
  unfold mmw_byteAt
  rw [c4, c3, nI_leI (by omega) (by omega), nI_add]
  refine ⟨fun h => ?_, fun h => ?_⟩
  · rw [pp_at_ge h] at hq
    exact hq
  · rw [pp_at_lt (by omega)] at hq
    rw [ml_cl (by omega), c5]
    exact ⟨ml_in (by omega) (by decide), hq⟩
theorem ms_inc {Q : Int32 → gg_S → Prop} {x : Int32} {lo hi : Int64} {a z : Int} (ha : lo.toInt = a) (hz : hi.toInt = z) (h1 : a ≤ x.toInt ∧ x.toInt ≤ z → Q 1 σ) (h0 : ¬ (a ≤ x.toInt ∧ x.toInt ≤ z) → Q 0 σ) : mmw_in x.toInt64 lo hi σ Q := by
  unfold mmw_in
  rw [lg_cmp_lt, lg_cmp_gt, Int64.lt_iff_toInt_lt, Int64.lt_iff_toInt_lt, Int32.toInt_toInt64, ha, hz]
  exact ⟨fun h => h0 (by omega), fun h => ⟨fun h' => h0 (by omega), fun h' => h1 (by omega)⟩⟩
theorem ms_next_100 {Q : gg_S → Prop} (f : Nat) : ∀ (k : Nat) (σ : gg_S), k ≤ n → n < f + k → mp_c σ b n tt → gg_g σ 0 21 = nI k →
    (∀ σ', mp_e [21] σ' σ → gg_g σ' 0 21 = nI (pp_sl b n f k) → Q σ') → mmw_next_100 Q f σ := by
  induction f with
  | zero => intro k σ h1 h2; omega
  | succ f ih =>
    intro k σ h1 h2 c h hq
    have hn := c.2.1
    unfold pp_sl at hq
    unfold mmw_next_100
    rw [h]
    refine ms_byteAt c (by omega) (ms_inc (a := 97) (z := 122) (by decide) (by decide) (fun hl => ml_1 ?_) (fun hl => ml_0 ?_))
    · rw [if_pos hl] at hq
      have hk := pp_isL_lt hl
      rintro _ rfl
      rw [h, nI_1]
      refine ih (k + 1) _ (by omega) (by omega) (mp_c_s c (by decide) (by decide)) gg_me (fun σ' e1 e2 => hq σ' (mp_es e1 (by decide)) e2)
    · rw [if_neg hl] at hq
      exact hq σ mp_e_rf h
theorem mp_nv_w {s j : Nat} {σ2 : Int64} (hd : ∀ i, s ≤ i → i < s + j → pp_isD (b i)) (h4 : j < 4) (h : σ2 = (pp_nv b s j).toInt64) (hx : pp_isD (b (s + j))) : (10 : Int64) * σ2 + (b (s + j)).toInt64 - 48 = (pp_nv b s (j + 1)).toInt64 := by
  obtain ⟨h1, h2⟩ := pp_nv_ok (b := b) (s := s) (e := s + j) hd j (Nat.le_refl _)
  have hp : (10 : Int) ^ (min j 4) ≤ 1000 := by
    rcases (show min j 4 = 0 ∨ min j 4 = 1 ∨ min j 4 = 2 ∨ min j 4 = 3 by omega) with h | h | h | h <;> rw [h] <;> decide
  subst h
  conv => rhs; unfold pp_nv
  rw [if_pos h4]
  generalize pp_nv b s j = x at h1 h2
  generalize b (s + j) = y at hx
  obtain ⟨d1, d2⟩ := hx
  have e : 10 * x + y - 48 = Int32.ofInt (10 * x.toInt + y.toInt - 48) := by
    rw [Int32.ofInt_sub, Int32.ofInt_add, Int32.ofInt_mul, Int32.ofInt_toInt, Int32.ofInt_toInt]
    rfl
  have e2 : (10 * x + y - 48).toInt = 10 * x.toInt + y.toInt - 48 := by rw [e, Int32.toInt_ofInt_of_le (by omega) (by omega)]
  rw [← Int64.ofInt_int32ToInt (10 * x + y - 48), e2, Int64.ofInt_sub, Int64.ofInt_add, Int64.ofInt_mul, Int64.ofInt_int32ToInt, Int64.ofInt_int32ToInt]
  rfl
theorem ms_next_160 {Q : gg_S → Prop} {s : Nat} (f : Nat) : ∀ (j : Nat) (σ : gg_S), s + j ≤ n → n < f + (s + j) → mp_c σ b n tt → gg_g σ 0 21 = nI (s + j) → (∀ i, s ≤ i → i < s + j → pp_isD (b i)) → σ.2 = (pp_nv b s j).toInt64 →
    (∀ σ', mp_e [21, 22] σ' σ → gg_g σ' 0 21 = nI (pp_sd b n f (s + j)) → gg_g σ' 0 22 = (if pp_sd b n f (s + j) - s ≤ 4 then 2 else 4) → σ'.2 = (pp_nv b s (pp_sd b n f (s + j) - s)).toInt64 → Q σ') → mmw_next_160 Q f (nI j) σ := by
  induction f with
  | zero => intro j σ h1 h2; omega
  | succ f ih =>
    intro j σ h1 h2 c h hd hw hq
    have hn := c.2.1
    unfold pp_sd at hq
    unfold mmw_next_160
    rw [h]
    refine ms_byteAt c (by omega) (ms_inc (a := 48) (z := 57) (by decide) (by decide) (fun hl => ml_1 ?_) (fun hl => ml_0 ?_))
    · rw [if_pos hl] at hq
      have hk := pp_isD_lt hl
      have hl' : pp_isD (b (s + j)) := by rw [pp_at_lt hk] at hl; exact hl
      have hd' : ∀ i, s ≤ i → i < s + (j + 1) → pp_isD (b i) := by
        intro i h3 h4
        rcases Nat.lt_or_ge i (s + j) with h5 | h5
        · exact hd i h3 h5
        · rw [show i = s + j by omega]
          exact hl'
      have go : ∀ w : Int64, w = (pp_nv b s (j + 1)).toInt64 → mmw_next_216 Q (fun y0 τ => mmw_next_160 Q f y0 τ) (nI j) w σ := by
        intro w hw'
        unfold mmw_next_216
        rintro _ rfl _ rfl
        rw [nI_1, gg_gw, h, nI_1]
        refine ih (j + 1) _ (by omega) (by omega) (mp_c_s (mp_c_w c) (by decide) (by decide)) gg_me hd' hw' (fun σ' e1 e2 e3 e4 => hq σ' (mp_ew (mp_es e1 (by decide))) e2 e3 e4)
      rw [show (4 : Int32) = nI 4 from rfl, nI_leI (by decide) (by omega)]
      refine ⟨fun h4 => go _ ?_, fun h4 => ?_⟩
      · rw [hw]
        conv => rhs; unfold pp_nv
        rw [if_neg (by omega)]
      · rw [h]
        refine ms_byteAt c (by omega) (go _ ?_)
        rw [pp_at_lt hk]
        exact mp_nv_w hd (by omega) hw hl'
    · rw [if_neg hl, show s + j - s = j by omega] at hq
      rw [show (4 : Int32) = nI 4 from rfl, nI_leI (by omega) (by decide)]
      unfold mmw_next_246
      refine ⟨fun h4 => ?_, fun h4 => ?_⟩
      · rintro _ rfl
        refine hq _ (mp_e_s (by decide)) (by rw [gg_ot (by decide)]; exact h) (by rw [if_pos h4]; exact gg_me) hw
      · rintro _ rfl
        refine hq _ (mp_e_s (by decide)) (by rw [gg_ot (by decide)]; exact h) (by rw [if_neg h4]; exact gg_me) hw
theorem ms_next_300 {Q : gg_S → Prop} {s : Nat} {x : Int32} (h : gg_g σ 0 21 = nI s) (h3 : gg_g σ 0 23 = nI s) (hq : ∀ σ', mp_e [21, 22, 23] σ' σ → mp_tk σ' b (4, x, s, s + 1) → Q σ') : mmw_next_300 Q x σ := by
  unfold mmw_next_300
  rintro _ rfl _ rfl _ rfl
  refine hq _ (mp_es (mp_ew (mp_es mp_e_rf (by decide))) (by decide)) ?_
  refine ⟨?_, ?_, Or.inr (Or.inr (Or.inr (Or.inl ⟨rfl, ?_, rfl⟩)))⟩
  · rw [gg_ot (by decide), gg_gw, gg_ot (by decide)]
    exact h3
  · intro _
    rw [gg_me, gg_gw, gg_ot (by decide), h, nI_1]
  · rw [gg_ot (by decide), gg_gw, gg_me]
theorem ms_next_0 {Q : gg_S → Prop} (f : Nat) : ∀ (k : Nat) (σ : gg_S), k ≤ n → n < f + k → mp_c σ b n tt → gg_g σ 0 21 = nI k →
    (∀ σ', mp_e [21, 22, 23] σ' σ → mp_tk σ' b (mp_ls b n (pp_ws b n f k)) → Q σ') → mmw_next_0 Q f σ := by
  induction f with
  | zero => intro k σ h1 h2; omega
  | succ f ih =>
    intro k σ h1 h2 c h hq
    have hn := c.2.1
    have hb := c.2.2.2.2.2
    have go : pp_at b n k = 32 ∨ pp_at b n k = 10 → mmw_next_26 Q (fun τ => mmw_next_0 Q f τ) σ := by
      intro hl
      unfold mmw_next_26
      rintro _ rfl
      have hk : k < n := by
        rcases Nat.lt_or_ge k n with hk | hk
        · exact hk
        · rw [pp_at_ge hk] at hl
          exact absurd hl (by decide)
      rw [h, nI_1]
      unfold pp_ws at hq
      rw [if_pos hl] at hq
      exact ih (k + 1) _ (by omega) (by omega) (mp_c_s c (by decide) (by decide)) gg_me (fun σ' e1 e2 => hq σ' (mp_es e1 (by decide)) e2)
    unfold mmw_next_0
    rw [h]
    refine ms_byteAt c (by omega) ⟨fun e => go (Or.inl e), fun n32 => ?_⟩
    rw [h]
    refine ms_byteAt c (by omega) ⟨fun e => go (Or.inr e), fun n10 => ?_⟩
    unfold pp_ws at hq
    rw [if_neg (by rintro (e | e) <;> contradiction)] at hq
    rintro _ rfl
    have c6 : mp_c (gg_s σ 0 23 (nI k)) b n tt := mp_c_s c (by decide) (by decide)
    rw [gg_ot (by decide), h]
    refine ms_byteAt c6 (by omega) ?_
    rintro _ rfl
    have c9 : mp_c (gg_s (gg_s σ 0 23 (nI k)) 0 22 4) b n tt := mp_c_s c6 (by decide) (by decide)
    have e9 : ∀ σ', mp_e [21, 22, 23] σ' (gg_s (gg_s σ 0 23 (nI k)) 0 22 4) → mp_e [21, 22, 23] σ' σ := fun σ' e => mp_es (mp_es e (by decide)) (by decide)
    have g21 : gg_g (gg_s (gg_s σ 0 23 (nI k)) 0 22 4) 0 21 = nI k := by rw [gg_ot (by decide), gg_ot (by decide)]; exact h
    have g23 : gg_g (gg_s (gg_s σ 0 23 (nI k)) 0 22 4) 0 23 = nI k := by rw [gg_ot (by decide), gg_me]
    have g22 : gg_g (gg_s (gg_s σ 0 23 (nI k)) 0 22 4) 0 22 = 4 := gg_me
    have g20 := c9.2.2.2.1
    have hq' : ∀ σ', mp_e [21, 22, 23] σ' (gg_s (gg_s σ 0 23 (nI k)) 0 22 4) → mp_tk σ' b (mp_ls b n k) → Q σ' := fun σ' e ht => hq σ' (e9 σ' e) ht
    clear hq go ih e9 c6
    revert g21 g23 g22 g20 hq'
    revert c9
    generalize gg_s (gg_s σ 0 23 (nI k)) 0 22 4 = τ
    intro c9 g21 g23 g22 g20 hq
    rw [Int32.le_iff_toInt_le, show (0 : Int32).toInt = 0 from by decide]
    unfold mp_ls at hq
    dsimp only at hq
    refine ⟨fun h0 => ?_, fun h0 => ?_⟩
    · have hkn : k < n := by
        rcases Nat.lt_or_ge k n with hk | hk
        · exact hk
        · rw [pp_at_ge hk, pp_m1] at h0
          omega
      rw [if_neg (fun z => by rw [z, pp_m1] at h0; omega)] at hq
      refine ms_inc (a := 97) (z := 122) (by decide) (by decide) (fun hl => ml_1 ?_) (fun hl => ml_0 ?_)
      · rw [if_pos hl] at hq
        rintro _ rfl
        refine ⟨n + 1, ms_next_100 (n + 1) k _ (by omega) (by omega) (mp_c_s c9 (by decide) (by decide)) (by rw [gg_ot (by decide)]; exact g21) (fun σ' e1 e2 => ?_)⟩
        obtain ⟨l1, l2, l3, l4⟩ := pp_sl_ok (b := b) (n := n) (n + 1) k (by omega) (by omega)
        refine hq σ' (mp_es (mp_e_mo e1 (by decide)) (by decide)) ?_
        have f23 : gg_g σ' 0 23 = nI k := by rw [e1.2 23 (by decide), gg_ot (by decide)]; exact g23
        have f22 : gg_g σ' 0 22 = 1 := by rw [e1.2 22 (by decide)]; exact gg_me
        split
        · rename_i hw
          exact ⟨f23, fun _ => e2, Or.inr (Or.inl ⟨f22, l4, by unfold mp_wk; rw [if_pos hw]⟩)⟩
        · rename_i hw
          split
          · rename_i hw2
            exact ⟨f23, fun _ => e2, Or.inr (Or.inl ⟨f22, l4, by unfold mp_wk; rw [if_neg hw, if_pos hw2]⟩)⟩
          · rename_i hw2
            exact ⟨f23, fun _ => e2, Or.inr (Or.inl ⟨f22, l4, by unfold mp_wk; rw [if_neg hw, if_neg hw2]⟩)⟩
      · rw [if_neg hl] at hq
        refine ms_inc (a := 48) (z := 57) (by decide) (by decide) (fun hd => ml_1 ?_) (fun hd => ml_0 ?_)
        · rw [if_pos hd] at hq
          rintro _ rfl _ rfl
          refine ⟨n + 1, ms_next_160 (s := k) (n + 1) 0 _ (by omega) (by omega) (mp_c_w (mp_c_s c9 (by decide) (by decide))) (by rw [gg_gw, gg_ot (by decide)]; exact g21) (fun i h3 h4 => by omega) (by unfold pp_nv; rfl) (fun σ' e1 e2 e3 e4 => ?_)⟩
          have e3 : gg_g σ' 0 22 = (if pp_sd b n (n + 1) k - k ≤ 4 then 2 else 4) := e3
          refine hq σ' (mp_es (mp_ew (mp_e_mo e1 (by decide))) (by decide)) ?_
          have f23 : gg_g σ' 0 23 = nI k := by rw [e1.2 23 (by decide), gg_gw, gg_ot (by decide)]; exact g23
          split
          · rename_i h4
            rw [if_pos h4] at e3
            exact ⟨f23, fun _ => e2, Or.inr (Or.inr (Or.inl ⟨rfl, e3, e4⟩))⟩
          · rename_i h4
            rw [if_neg h4] at e3
            exact ⟨f23, fun _ => e2, Or.inr (Or.inr (Or.inr (Or.inr ⟨rfl, e3⟩)))⟩
        · rw [if_neg hd] at hq
          have go : pp_sg (pp_at b n k) → mmw_next_300 Q (pp_at b n k) τ := by
            intro hs
            rw [if_pos hs] at hq
            exact ms_next_300 g21 g23 hq
          refine ⟨fun e => go (Or.inl e), fun n1 => ⟨fun e => go (Or.inr (Or.inl e)), fun n2 => ⟨fun e => go (Or.inr (Or.inr (Or.inl e))), fun n3 => ⟨fun e => go (Or.inr (Or.inr (Or.inr (Or.inl e)))), fun n4 => ⟨fun e => go (Or.inr (Or.inr (Or.inr (Or.inr (Or.inl e))))), fun n5 =>
            ⟨fun e => go (Or.inr (Or.inr (Or.inr (Or.inr (Or.inr (Or.inl e)))))), fun n6 => ⟨fun e => go (Or.inr (Or.inr (Or.inr (Or.inr (Or.inr (Or.inr (Or.inl e))))))), fun n7 => ⟨fun e => go (Or.inr (Or.inr (Or.inr (Or.inr (Or.inr (Or.inr (Or.inr e))))))), fun n8 => ?_⟩⟩⟩⟩⟩⟩⟩⟩
          rw [if_neg (by rintro (e | e | e | e | e | e | e | e) <;> contradiction)] at hq
          exact hq τ mp_e_rf ⟨g23, fun z => absurd g22 z, Or.inr (Or.inr (Or.inr (Or.inr ⟨rfl, g22⟩)))⟩
    · have hkn : k = n := by
        have := (pp_at_lt0 hb).mp (show (pp_at b n k).toInt < 0 by omega)
        omega
      rw [if_pos ((pp_at_neg hb).mpr (by omega))] at hq
      rintro _ rfl _ rfl
      refine hq _ (mp_es (mp_es mp_e_rf (by decide)) (by decide)) ⟨?_, ?_, Or.inl ⟨rfl, ?_⟩⟩
      · rw [gg_me, gg_ot (by decide), g20, hkn]
      · intro _
        rw [gg_ot (by decide), gg_ot (by decide)]
        exact g21
      · rw [gg_ot (by decide), gg_me]
theorem ms_next {Q : gg_S → Prop} {k : Nat} (c : mp_c σ b n tt) (hk : k ≤ n) (h : gg_g σ 0 21 = nI k) (hq : ∀ σ', mp_e [21, 22, 23] σ' σ → mp_tk σ' b (pp_lx b n k) → Q σ') : mmw_next σ Q := by
  unfold mmw_next
  rw [mp_ls_eq] at hq
  exact ⟨n + 1, ms_next_0 (n + 1) k σ hk (by omega) c h hq⟩
theorem ms_isLetter {Q : Int32 → gg_S → Prop} {s e i : Nat} {a : Int32} (c : mp_c σ b n tt) (hs : s ≤ n) (he : e ≤ n) (hi : i < 8) (g1 : gg_g σ 0 23 = nI s) (g2 : gg_g σ 0 21 = nI e) (h1 : pp_lt b s e i a → Q 1 σ) (h0 : ¬ pp_lt b s e i a → Q 0 σ) : mmw_isLetter (nI i) a σ Q := by
  have hn := c.2.1
  unfold pp_lt at h1 h0
  unfold mmw_isLetter
  rw [g1, g2, nI_add, nI_leI (by omega) (by omega)]
  refine ⟨fun h => ?_, fun h => ?_⟩
  · rw [if_neg (by omega)] at h1 h0
    exact ⟨h1, h0⟩
  · rw [if_pos (by omega)] at h1 h0
    refine ms_byteAt c (by omega) ?_
    rw [pp_at_lt (by omega)]
    exact ⟨h1, h0⟩
theorem ms_isWord {Q : Int32 → gg_S → Prop} {s e : Nat} {a1 a2 a3 a4 a5 a6 a7 a8 : Int32} (c : mp_c σ b n tt) (hs : s ≤ n) (he : e ≤ n) (h26 : gg_g σ 0 26 = 0) (g1 : gg_g σ 0 23 = nI s) (g2 : gg_g σ 0 22 = 1 → gg_g σ 0 21 = nI e)
    (h1 : gg_g σ 0 22 = 1 → e ≤ s + 8 → pp_lt b s e 0 a1 → pp_lt b s e 1 a2 → pp_lt b s e 2 a3 → pp_lt b s e 3 a4 → pp_lt b s e 4 a5 → pp_lt b s e 5 a6 → pp_lt b s e 6 a7 → pp_lt b s e 7 a8 → Q 1 σ)
    (h0 : ¬ (gg_g σ 0 22 = 1 ∧ e ≤ s + 8 ∧ pp_lt b s e 0 a1 ∧ pp_lt b s e 1 a2 ∧ pp_lt b s e 2 a3 ∧ pp_lt b s e 3 a4 ∧ pp_lt b s e 4 a5 ∧ pp_lt b s e 5 a6 ∧ pp_lt b s e 6 a7 ∧ pp_lt b s e 7 a8) → Q 0 σ) : mmw_isWord a1 a2 a3 a4 a5 a6 a7 a8 σ Q := by
  have hn := c.2.1
  unfold mmw_isWord
  rw [h26]
  refine ⟨fun _ => ⟨fun hw => ?_, fun hw => h0 (fun z => hw z.1)⟩, fun z => absurd rfl z⟩
  have g3 := g2 hw
  rw [g1, g3, show (8 : Int32) = nI 8 from rfl, nI_add, nI_ltI (by omega) (by omega)]
  refine ⟨fun h => h0 (fun z => by have := z.2.1; omega), fun h => ?_⟩
  refine ms_isLetter (i := 0) c hs he (by decide) g1 g3 (fun l0 => ml_1 ?_) (fun l => ml_0 (h0 (fun z => l z.2.2.1)))
  refine ms_isLetter (i := 1) c hs he (by decide) g1 g3 (fun l1 => ml_1 ?_) (fun l => ml_0 (h0 (fun z => l z.2.2.2.1)))
  refine ms_isLetter (i := 2) c hs he (by decide) g1 g3 (fun l2 => ml_1 ?_) (fun l => ml_0 (h0 (fun z => l z.2.2.2.2.1)))
  refine ms_isLetter (i := 3) c hs he (by decide) g1 g3 (fun l3 => ml_1 ?_) (fun l => ml_0 (h0 (fun z => l z.2.2.2.2.2.1)))
  refine ms_isLetter (i := 4) c hs he (by decide) g1 g3 (fun l4 => ml_1 ?_) (fun l => ml_0 (h0 (fun z => l z.2.2.2.2.2.2.1)))
  refine ms_isLetter (i := 5) c hs he (by decide) g1 g3 (fun l5 => ml_1 ?_) (fun l => ml_0 (h0 (fun z => l z.2.2.2.2.2.2.2.1)))
  refine ms_isLetter (i := 6) c hs he (by decide) g1 g3 (fun l6 => ml_1 ?_) (fun l => ml_0 (h0 (fun z => l z.2.2.2.2.2.2.2.2.1)))
  refine ms_isLetter (i := 7) c hs he (by decide) g1 g3 (fun l7 => ml_1 ?_) (fun l => ml_0 (h0 (fun z => l z.2.2.2.2.2.2.2.2.2)))
  exact h1 hw (by omega) l0 l1 l2 l3 l4 l5 l6 l7
theorem ms_isWord_bad {Q : Int32 → gg_S → Prop} {a1 a2 a3 a4 a5 a6 a7 a8 : Int32} (h26 : gg_g σ 0 26 = 1) (h0 : Q 0 σ) : mmw_isWord a1 a2 a3 a4 a5 a6 a7 a8 σ Q := by
  unfold mmw_isWord
  rw [h26]
  exact ml_1 h0
/-- the token at hand is the k-th word -/
abbrev mp_is (t : pp_T) (k : Nat) : Prop := (t.1, t.2.1) = mp_wk k
theorem mp_wk_inj : ∀ j, j < 13 → ∀ k, k < 13 → mp_wk j = mp_wk k → j = k := by decide
theorem mp_wk_0 : ∀ k, k < 12 → (mp_wk k).1 ≠ 0 ∧ (mp_wk k).1 ≠ 3 ∧ (mp_wk k).1 ≠ 4 ∧ (mp_wk k).1 ≠ 5 := by decide
theorem ms_isW {Q : Int32 → gg_S → Prop} {t : pp_T} {k : Nat} {a1 a2 a3 a4 a5 a6 a7 a8 : Int32} (hk : k < 12) (l : (pp_w k).getD 0 0 = a1 ∧ (pp_w k).getD 1 0 = a2 ∧ (pp_w k).getD 2 0 = a3 ∧ (pp_w k).getD 3 0 = a4 ∧ (pp_w k).getD 4 0 = a5 ∧ (pp_w k).getD 5 0 = a6 ∧ (pp_w k).getD 6 0 = a7 ∧ (pp_w k).getD 7 0 = a8)
    (c : mp_c σ b n tt) (ht : mp_tk σ b t) (hv : pp_in n 0 t) (h26 : gg_g σ 0 26 = 0) (h1 : mp_is t k → Q 1 σ) (h0 : ¬ mp_is t k → Q 0 σ) : mmw_isWord a1 a2 a3 a4 a5 a6 a7 a8 σ Q := by
  obtain ⟨v1, v2, v3, v4, v5⟩ := hv
  obtain ⟨t1, t2, t3⟩ := ht
  obtain ⟨rfl, rfl, rfl, rfl, rfl, rfl, rfl, rfl⟩ := l
  have key : gg_g σ 0 22 = 1 → ((t.2.2.2 ≤ t.2.2.1 + 8 ∧ ∀ i, i < 8 → pp_lt b t.2.2.1 t.2.2.2 i ((pp_w k).getD i 0)) ↔ mp_is t k) := by
    intro hw
    rcases t3 with ⟨_, e⟩ | ⟨_, hl, he⟩ | ⟨_, e, _⟩ | ⟨_, e, _⟩ | ⟨_, e⟩
    · rw [e] at hw; exact absurd hw (by decide)
    · rw [pp_is_lt hk hl, ← pp_wd_iff hk]
      unfold mp_is
      rw [he]
      exact ⟨fun z => by rw [z], fun z => mp_wk_inj _ (by have := pp_wd_le (b := b) (s := t.2.2.1) (e := t.2.2.2); omega) _ (by omega) z⟩
    · rw [e] at hw; exact absurd hw (by decide)
    · rw [e] at hw; exact absurd hw (by decide)
    · rw [e] at hw; exact absurd hw (by decide)
  refine ms_isWord c (by omega) v3 h26 t1 (fun hw => t2 (by rw [hw]; decide)) (fun hw he l0 l1 l2 l3 l4 l5 l6 l7 => h1 ((key hw).mp ⟨he, fun i hi => ?_⟩)) (fun z => h0 (fun hm => ?_))
  · rcases (show i = 0 ∨ i = 1 ∨ i = 2 ∨ i = 3 ∨ i = 4 ∨ i = 5 ∨ i = 6 ∨ i = 7 by omega) with rfl | rfl | rfl | rfl | rfl | rfl | rfl | rfl <;> assumption
  · have hw : gg_g σ 0 22 = 1 := by
      obtain ⟨k0, k3, k4, k5⟩ := mp_wk_0 k hk
      rw [← hm] at k0 k3 k4 k5
      rcases t3 with ⟨e, _⟩ | ⟨e, _⟩ | ⟨e, _⟩ | ⟨e, _⟩ | ⟨e, _⟩
      · exact absurd e k0
      · exact e
      · exact absurd e k3
      · exact absurd e k4
      · exact absurd e k5
    obtain ⟨z1, z2⟩ := (key hw).mpr hm
    exact z ⟨hw, z1, z2 0 (by decide), z2 1 (by decide), z2 2 (by decide), z2 3 (by decide), z2 4 (by decide), z2 5 (by decide), z2 6 (by decide), z2 7 (by decide)⟩
theorem mp_tk_sg {t : pp_T} (ht : mp_tk σ b t) : gg_g σ 0 22 = 3 ↔ t.1 = 4 := by
  have hwk : ∀ w, w < 13 → (mp_wk w).1 ≠ 4 := by decide
  rcases ht.2.2 with ⟨e, f⟩ | ⟨f, _, e⟩ | ⟨e, f, _⟩ | ⟨e, f, _⟩ | ⟨e, f⟩
  · rw [e, f]; decide
  · rw [f]
    have := hwk (pp_wd b t.2.2.1 t.2.2.2) (by have := pp_wd_le (b := b) (s := t.2.2.1) (e := t.2.2.2); omega)
    rw [← e] at this
    exact ⟨fun z => absurd z (by decide), fun z => absurd z this⟩
  · rw [e, f]; decide
  · rw [e, f]; decide
  · rw [e, f]; decide
theorem mp_tk_wo {t : pp_T} (ht : mp_tk σ b t) (h : t.1 = 3 ∨ t.1 = 4) : σ.2 = t.2.1.toInt64 := by
  have hwk : ∀ w, w < 13 → (mp_wk w).1 ≠ 4 ∧ (mp_wk w).1 ≠ 3 := by decide
  rcases ht.2.2 with ⟨e, f⟩ | ⟨f, _, e⟩ | ⟨e, f, g⟩ | ⟨e, f, g⟩ | ⟨e, f⟩
  · rw [e] at h; omega
  · have := hwk (pp_wd b t.2.2.1 t.2.2.2) (by have := pp_wd_le (b := b) (s := t.2.2.1) (e := t.2.2.2); omega)
    rw [← e] at this
    rcases h with h | h
    · exact absurd h this.2
    · exact absurd h this.1
  · exact g
  · exact g
  · rw [e] at h; omega
theorem mp_cmp0 {x y : Int32} : lg_cmp x.toInt64 y.toInt64 = 0 ↔ x = y := by
  rw [lg_cmp_eq]
  exact ⟨fun h => by have := congrArg Int64.toInt32 h; rwa [Int32.toInt32_toInt64, Int32.toInt32_toInt64] at this, fun h => by rw [h]⟩
theorem ms_isSign {Q : Int32 → gg_S → Prop} {t : pp_T} {a : Int32} (ht : mp_tk σ b t) (h26 : gg_g σ 0 26 = 0) (h1 : pp_sgn t a → Q 1 σ) (h0 : ¬ pp_sgn t a → Q 0 σ) : mmw_isSign a σ Q := by
  unfold mmw_isSign
  rw [h26]
  refine ⟨fun _ => ?_, fun z => absurd rfl z⟩
  rw [mp_tk_sg ht]
  refine ⟨fun h4 => ?_, fun h4 => h0 (fun z => h4 z.1)⟩
  rw [mp_tk_wo ht (Or.inr h4), mp_cmp0]
  exact ⟨fun h => h1 ⟨h4, h⟩, fun h => h0 (fun z => h z.2)⟩
theorem ms_isSign_bad {Q : Int32 → gg_S → Prop} {a : Int32} (h26 : gg_g σ 0 26 = 1) (h0 : Q 0 σ) : mmw_isSign a σ Q := by
  unfold mmw_isSign
  rw [h26]
  exact ml_1 h0
/-- what the parser may have changed -/
abbrev mp_l : List Nat := [21, 22, 23, 25, 26, 27]
abbrev mp_bad (σ : gg_S) (p : Nat) : Prop := gg_g σ 0 26 = 1 ∧ gg_g σ 0 27 = nI p
theorem ms_fail {Q : gg_S → Prop} {t : pp_T} (ht : mp_tk σ b t) (h26 : gg_g σ 0 26 = 0) (hq : ∀ σ', mp_e [26, 27] σ' σ → mp_bad σ' t.2.2.1 → Q σ') : mmw_fail σ Q := by
  unfold mmw_fail
  rw [h26]
  refine ⟨fun _ => ?_, fun z => absurd rfl z⟩
  rintro _ rfl _ rfl
  refine hq _ (mp_es (mp_es mp_e_rf (by decide)) (by decide)) ⟨?_, ?_⟩
  · rw [gg_ot (by decide), gg_me]
  · rw [gg_me, gg_ot (by decide)]
    exact ht.1
theorem ms_fail_bad {Q : gg_S → Prop} (h26 : gg_g σ 0 26 = 1) (hq : Q σ) : mmw_fail σ Q := by
  unfold mmw_fail
  rw [h26]
  exact ml_1 hq
def ma_env (a b c d e f : Int32) : Nat → Int32 := fun k => match k with
  | 0 => a
  | 1 => b
  | 2 => c
  | 3 => d
  | 4 => e
  | _ => f
/-- what the names say now -/
abbrev mp_env (σ : gg_S) : Nat → Int32 := ma_env (gg_g σ 0 13) (gg_g σ 0 14) (gg_g σ 0 15) (gg_g σ 0 16) (gg_g σ 0 17) (gg_g σ 0 18)
theorem mp_env_e {σ' σ : gg_S} (h : mp_e mp_l σ' σ) : mp_env σ' = mp_env σ := by
  unfold mp_env
  rw [h.2 13 (by decide), h.2 14 (by decide), h.2 15 (by decide), h.2 16 (by decide), h.2 17 (by decide), h.2 18 (by decide)]
/-- not failed, t at hand, r levels left -/
abbrev mp_ok (σ : gg_S) (b : Nat → Int32) (n tt : Nat) (t : pp_T) (r : Nat) : Prop := mp_c σ b n tt ∧ mp_tk σ b t ∧ pp_in n 0 t ∧ gg_g σ 0 26 = 0 ∧ gg_g σ 0 25 = nI (5 - r)
/-- a method's answer -/
def mp_re (en : Nat → Int32) (b : Nat → Int32) (n : Nat) (R : pp_R) (m r : Nat) (v : Int32) (σ' : gg_S) : Prop := match R with
  | .inl p => mp_bad σ' p
  | .inr (f, t) => v = f en ∧ mp_tk σ' b t ∧ pp_in n m t ∧ gg_g σ' 0 26 = 0 ∧ gg_g σ' 0 25 = nI (5 - r)
def mp_G (b : Nat → Int32) (n tt : Nat) (G : gg_S → (Int32 → gg_S → Prop) → Prop) (P : pp_T → pp_R) (r : Nat) : Prop :=
  ∀ (σ : gg_S) (Q : Int32 → gg_S → Prop) (t : pp_T), mp_ok σ b n tt t r → (∀ v σ', mp_e mp_l σ' σ → mp_re (mp_env σ) b n (P t) (t.2.2.1 + 1) r v σ' → Q v σ') → G σ Q
theorem pp_in_mo {n m m' : Nat} {t : pp_T} (h : pp_in n m t) (hm : m' ≤ m) : pp_in n m' t := ⟨by have := h.1; omega, h.2⟩
theorem mp_re_mo {en b : Nat → Int32} {n m m' r : Nat} {R : pp_R} {v : Int32} {σ' : gg_S} (h : mp_re en b n R m r v σ') (hm : m' ≤ m) : mp_re en b n R m' r v σ' := by
  unfold mp_re at h ⊢
  split at h
  · exact h
  · exact ⟨h.1, h.2.1, pp_in_mo h.2.2.1 hm, h.2.2.2⟩
theorem mp_tk_nu {t : pp_T} (ht : mp_tk σ b t) : gg_g σ 0 22 = 2 ↔ t.1 = 3 := by
  have hwk : ∀ w, w < 13 → (mp_wk w).1 ≠ 3 := by decide
  rcases ht.2.2 with ⟨e, f⟩ | ⟨f, _, e⟩ | ⟨e, f, _⟩ | ⟨e, f, _⟩ | ⟨e, f⟩
  · rw [e, f]; decide
  · rw [f]
    have := hwk (pp_wd b t.2.2.1 t.2.2.2) (by have := pp_wd_le (b := b) (s := t.2.2.1) (e := t.2.2.2); omega)
    rw [← e] at this
    exact ⟨fun z => absurd z (by decide), fun z => absurd z this⟩
  · rw [e, f]; decide
  · rw [e, f]; decide
  · rw [e, f]; decide
theorem mp_tk_na {t : pp_T} (ht : mp_tk σ b t) (h : t.1 = 2) : gg_g σ 0 22 = 1 := by
  rcases ht.2.2 with ⟨e, f⟩ | ⟨f, _, e⟩ | ⟨e, f, _⟩ | ⟨e, f, _⟩ | ⟨e, f⟩
  · rw [e] at h; exact absurd h (by decide)
  · exact f
  · rw [e] at h; exact absurd h (by decide)
  · rw [e] at h; exact absurd h (by decide)
  · rw [e] at h; exact absurd h (by decide)
theorem mp_tk_e {t : pp_T} (ht : mp_tk σ b t) (h5 : t.1 ≠ 5) : gg_g σ 0 21 = nI t.2.2.2 := by
  refine ht.2.1 ?_
  rcases ht.2.2 with ⟨e, f⟩ | ⟨f, _, e⟩ | ⟨e, f, _⟩ | ⟨e, f, _⟩ | ⟨e, f⟩
  · rw [f]; decide
  · rw [f]; decide
  · rw [f]; decide
  · rw [f]; decide
  · exact absurd e h5
theorem ms_nextT {Q : gg_S → Prop} {t : pp_T} (c : mp_c σ b n tt) (ht : mp_tk σ b t) (hv : pp_in n 0 t) (h5 : t.1 ≠ 5) (hq : ∀ σ', mp_e [21, 22, 23] σ' σ → mp_c σ' b n tt → mp_tk σ' b (pp_lx b n t.2.2.2) → pp_in n t.2.2.2 (pp_lx b n t.2.2.2) → Q σ') : mmw_next σ Q :=
  ms_next c hv.2.2.1 (mp_tk_e ht h5) (fun σ' e h => hq σ' e (mp_c_e c e (by decide) (by decide)) h (pp_lx_in c.2.2.2.2.2 hv.2.2.1))
theorem ms_nxt {Q : gg_S → Prop} {t : pp_T} {r : Nat} (ok : mp_ok σ b n tt t r) (h5 : t.1 ≠ 5) (hq : ∀ σ', mp_e [21, 22, 23] σ' σ → mp_ok σ' b n tt (pp_lx b n t.2.2.2) r → pp_in n t.2.2.2 (pp_lx b n t.2.2.2) → Q σ') : mmw_next σ Q := by
  obtain ⟨c, ht, hv, h26, h25⟩ := ok
  refine ms_nextT c ht hv h5 (fun σ' e c' h' v' => hq σ' e ⟨c', h', pp_in_mo v' (Nat.zero_le _), by rw [e.2 26 (by decide)]; exact h26, by rw [e.2 25 (by decide)]; exact h25⟩ v')
theorem ms_nxsub {Q : Int32 → gg_S → Prop} {g : gg_S → (Int32 → gg_S → Prop) → Prop} {P : pp_T → pp_R} {t : pp_T} {r : Nat} (hG : mp_G b n tt g P r) (ok : mp_ok σ b n tt t r) (h5 : t.1 ≠ 5)
    (hq : ∀ w σ', mp_e mp_l σ' σ → mp_re (mp_env σ) b n (P (pp_lx b n t.2.2.2)) (t.2.2.1 + 1) r w σ' → Q w σ') : mmw_next σ (fun σ5 => g σ5 Q) := by
  refine ms_nxt ok h5 (fun σ' e ok' v' => hG σ' Q _ ok' (fun w σ'' e2 hre => hq w σ'' (mp_e_tr e2 (mp_e_mo e (by decide))) ?_))
  rw [mp_env_e (mp_e_mo e (by decide))] at hre
  exact mp_re_mo hre (by have := v'.1; have := ok.2.2.1.2.1; omega)
theorem ms_opens {Q : Int32 → gg_S → Prop} {t : pp_T} {r : Nat} (hr : r ≤ 5) (ok : mp_ok σ b n tt t r) (h5 : t.1 ≠ 5) (h0 : r = 0 → ∀ σ', mp_e mp_l σ' σ → mp_bad σ' t.2.2.1 → Q 0 σ')
    (h1 : ∀ r', r = r' + 1 → ∀ σ', mp_e mp_l σ' σ → mp_ok σ' b n tt (pp_lx b n t.2.2.2) r' → pp_in n t.2.2.2 (pp_lx b n t.2.2.2) → Q 1 σ') : mmw_opens σ Q := by
  obtain ⟨c, ht, hv, h26, h25⟩ := ok
  unfold mmw_opens
  rw [h25, show (5 : Int32) = nI 5 from rfl, nI_eq (by omega) (by decide)]
  refine ⟨fun h => ms_fail ht h26 (fun σ' e hb => h0 (by omega) σ' (mp_e_mo e (by decide)) hb), fun h => ?_⟩
  rintro _ rfl
  have ok' : mp_ok (gg_s σ 0 25 (nI (5 - r) + 1)) b n tt t (r - 1) := by
    refine ⟨mp_c_s c (by decide) (by decide), mp_tk_s ht (by decide) (by decide) (by decide), hv, by rw [gg_ot (by decide)]; exact h26, ?_⟩
    rw [gg_me, nI_1, show 5 - r + 1 = 5 - (r - 1) by omega]
  exact ms_nxt ok' h5 (fun σ' e ok2 v2 => h1 (r - 1) (by omega) σ' (mp_es (mp_e_mo e (by decide)) (by decide)) ok2 v2)
theorem ms_name {Q : Int32 → gg_S → Prop} {t : pp_T} {r : Nat} (ok : mp_ok σ b n tt t r) (hw : gg_g σ 0 22 = 1) (h1 : ∀ k, k < 6 → t.1 = 2 → t.2.1 = nI k → Q (mp_env σ k) σ) (h0 : t.1 ≠ 2 → ∀ σ', mp_e [26, 27] σ' σ → mp_bad σ' t.2.2.1 → Q 0 σ') : mmw_name σ Q := by
  obtain ⟨c, ht, hv, h26, h25⟩ := ok
  have g : ∀ k, k < 6 → mp_is t (k + 6) → Q (mp_env σ k) σ := by
    intro k hk h
    unfold mp_is mp_wk at h
    rw [if_neg (by omega), if_pos (by omega)] at h
    exact h1 k hk (congrArg Prod.fst h) (congrArg Prod.snd h)
  unfold mmw_name
  refine ms_isW (k := 6) (by decide) (by decide) c ht hv h26 (fun h => ml_1 (g 0 (by decide) h)) (fun n0 => ml_0 ?_)
  refine ms_isW (k := 7) (by decide) (by decide) c ht hv h26 (fun h => ml_1 (g 1 (by decide) h)) (fun n1 => ml_0 ?_)
  refine ms_isW (k := 8) (by decide) (by decide) c ht hv h26 (fun h => ml_1 (g 2 (by decide) h)) (fun n2 => ml_0 ?_)
  refine ms_isW (k := 9) (by decide) (by decide) c ht hv h26 (fun h => ml_1 (g 3 (by decide) h)) (fun n3 => ml_0 ?_)
  refine ms_isW (k := 10) (by decide) (by decide) c ht hv h26 (fun h => ml_1 (g 4 (by decide) h)) (fun n4 => ml_0 ?_)
  refine ms_isW (k := 11) (by decide) (by decide) c ht hv h26 (fun h => ml_1 (g 5 (by decide) h)) (fun n5 => ml_0 ?_)
  refine ms_fail ht h26 (fun σ' e hb => h0 (fun h2 => ?_) σ' e hb)
  rcases ht.2.2 with ⟨e, f⟩ | ⟨f, _, e⟩ | ⟨e, f, _⟩ | ⟨e, f, _⟩ | ⟨e, f⟩
  · rw [e] at h2; exact absurd h2 (by decide)
  · have hle := pp_wd_le (b := b) (s := t.2.2.1) (e := t.2.2.2)
    generalize pp_wd b t.2.2.1 t.2.2.2 = w at e hle
    have h6 : 6 ≤ w := by
      rcases Nat.lt_or_ge w 6 with h | h
      · unfold mp_wk at e
        rw [if_pos h] at e
        have := congrArg Prod.fst e
        rw [h2] at this
        exact absurd (show 2 = 1 from this) (by decide)
      · exact h
    have h12 : w < 12 := by
      rcases Nat.lt_or_ge w 12 with h | h
      · exact h
      · unfold mp_wk at e
        rw [if_neg (by omega), if_neg (by omega)] at e
        have := congrArg Prod.fst e
        rw [h2] at this
        exact absurd this (by decide)
    rcases (show w = 6 ∨ w = 7 ∨ w = 8 ∨ w = 9 ∨ w = 10 ∨ w = 11 by omega) with rfl | rfl | rfl | rfl | rfl | rfl
    · exact n0 e
    · exact n1 e
    · exact n2 e
    · exact n3 e
    · exact n4 e
    · exact n5 e
  · rw [e] at h2; exact absurd h2 (by decide)
  · rw [e] at h2; exact absurd h2 (by decide)
  · rw [e] at h2; exact absurd h2 (by decide)
/-- a rank's loop -/
theorem mp_loop {L : Nat → Int32 → gg_S → Prop} {Q : Int32 → gg_S → Prop} {sel : pp_T → Option (Int32 → Int32 → Int32)} {sub : pp_T → pp_R} {r m : Nat} {en : Nat → Int32}
    (hsel : ∀ t g, sel t = some g → t.1 ≠ 0)
    (hstep : ∀ f σ t v, mp_ok σ b n tt t r → (sel t = none → Q v σ) → (∀ g, sel t = some g → ∀ w σ', mp_e mp_l σ' σ → mp_re (mp_env σ) b n (sub (pp_lx b n t.2.2.2)) (t.2.2.1 + 1) r w σ' → L f (g v w) σ') → L (f + 1) v σ)
    (hbad : ∀ f v σ, gg_g σ 0 26 = 1 → Q v σ → L (f + 1) v σ) (f : Nat) : ∀ (σ : gg_S) (t : pp_T) (v : Int32) (F : pp_F), n ≤ f + t.2.2.1 → mp_env σ = en → v = F en → mp_ok σ b n tt t r → m ≤ t.2.2.1 →
      (∀ v' σ', mp_e mp_l σ' σ → mp_re en b n (pp_lp (pp_lx b n) sel sub f F t) m r v' σ' → Q v' σ') → L (f + 1) v σ := by
  induction f with
  | zero =>
    intro σ t v F h1 he hv ok hm hq
    refine hstep 0 σ t v ok (fun hs => hq v σ mp_e_rf ?_) (fun g hg => ?_)
    · exact ⟨hv, ok.2.1, ⟨hm, ok.2.2.1.2⟩, ok.2.2.2⟩
    · have h0 := hsel t g hg
      have := ok.2.2.1.2.2.2.2 h0
      have := ok.2.2.1.2.2.1
      omega
  | succ f ih =>
    intro σ t v F h1 he hv ok hm hq
    refine hstep (f + 1) σ t v ok (fun hs => hq v σ mp_e_rf ?_) (fun g hg w σ' e hre => ?_)
    · unfold pp_lp
      rw [hs]
      exact ⟨hv, ok.2.1, ⟨hm, ok.2.2.1.2⟩, ok.2.2.2⟩
    · unfold pp_lp at hq
      rw [hg] at hq
      dsimp only at hq
      cases hR : sub (pp_lx b n t.2.2.2) with
      | inl p =>
        rw [hR] at hq hre
        exact hbad f _ σ' hre.1 (hq _ σ' e hre)
      | inr p =>
        obtain ⟨h, t2⟩ := p
        rw [hR] at hq hre
        obtain ⟨r1, r2, r3, r4⟩ := hre
        refine ih σ' t2 (g v w) (fun e => g (F e) (h e)) (by have := r3.1; omega) (by rw [mp_env_e e]; exact he) (by rw [hv, r1, he]) ⟨mp_c_e ok.1 e (by decide) (by decide), r2, pp_in_mo r3 (Nat.zero_le _), r4⟩ (by have := r3.1; omega) (fun v' σ'' e2 h2 => hq v' σ'' (mp_e_tr e2 e) h2)
theorem mp_rank {G : gg_S → (Int32 → gg_S → Prop) → Prop} {L : Nat → Int32 → gg_S → Prop} {Q : Int32 → gg_S → Prop} {sel : pp_T → Option (Int32 → Int32 → Int32)} {sub : pp_T → pp_R} {r : Nat} {t : pp_T} (hG : mp_G b n tt G sub r)
    (hsel : ∀ t g, sel t = some g → t.1 ≠ 0)
    (hstep : ∀ f σ t v, mp_ok σ b n tt t r → (sel t = none → Q v σ) → (∀ g, sel t = some g → ∀ w σ', mp_e mp_l σ' σ → mp_re (mp_env σ) b n (sub (pp_lx b n t.2.2.2)) (t.2.2.1 + 1) r w σ' → L f (g v w) σ') → L (f + 1) v σ)
    (hbad : ∀ f v σ, gg_g σ 0 26 = 1 → Q v σ → L (f + 1) v σ) (ok : mp_ok σ b n tt t r)
    (hq : ∀ v σ', mp_e mp_l σ' σ → mp_re (mp_env σ) b n (pp_rk (pp_lx b n) n sel sub t) (t.2.2.1 + 1) r v σ' → Q v σ') : G σ (fun r2 σ1 => ∃ k9, L k9 r2 σ1) := by
  refine hG σ _ t ok (fun v σ' e re => ?_)
  unfold pp_rk at hq
  cases hP : sub t with
  | inl p =>
    rw [hP] at re hq
    exact ⟨1, hbad 0 v σ' re.1 (hq v σ' e re)⟩
  | inr p =>
    obtain ⟨f, t1⟩ := p
    rw [hP] at re hq
    obtain ⟨r1, r2, r3, r4⟩ := re
    exact ⟨n + 1, mp_loop hsel hstep hbad n σ' t1 v f (by omega) (mp_env_e e) r1 ⟨mp_c_e ok.1 e (by decide) (by decide), r2, pp_in_mo r3 (Nat.zero_le _), r4⟩ r3.1 (fun v' σ'' e2 h2 => hq v' σ'' (mp_e_tr e2 e) h2)⟩
theorem mp_key {t : pp_T} {k : Nat} (hk : k < 6) : mp_is t k ↔ pp_key t k := by
  unfold mp_is mp_wk
  rw [if_pos hk]
  exact Prod.mk.injEq _ _ _ _ ▸ Iff.rfl
section MPG
variable {G : Nat → gg_S → (Int32 → gg_S → Prop) → Prop} {r : Nat}
theorem ms_term {P : pp_T → pp_R} (hG : mp_G b n tt (G 5) P r) : mp_G b n tt (mmw_term G) (pp_rk (pp_lx b n) n pp_s1 P) r := by
  intro σ Q t ok hq
  unfold mmw_term
  refine mp_rank hG (sel := pp_s1) (fun t g h => ?_) (fun f σ t v ok h0 h1 => ?_) (fun f v σ h hq => ?_) ok hq
  · unfold pp_s1 at h
    split at h
    · rename_i hs
      rw [hs.1]; decide
    · exact absurd h (by simp)
  · unfold mmw_term_5
    refine ms_isSign ok.2.1 ok.2.2.2.1 (fun hs => ml_1 ?_) (fun hs => ml_0 (h0 (if_neg hs)))
    exact ms_nxsub hG ok (by rw [hs.1]; decide) (fun w σ' e re => h1 _ (if_pos hs) w σ' e re)
  · unfold mmw_term_5
    exact ms_isSign_bad h (ml_0 hq)
theorem ms_added {P : pp_T → pp_R} (hG : mp_G b n tt (G 4) P r) : mp_G b n tt (mmw_added G) (pp_rk (pp_lx b n) n pp_s2 P) r := by
  intro σ Q t ok hq
  unfold mmw_added
  refine mp_rank hG (sel := pp_s2) (fun t g h => ?_) (fun f σ t v ok h0 h1 => ?_) (fun f v σ h hq => ?_) ok hq
  · unfold pp_s2 at h
    split at h
    · rename_i hs
      rw [hs.1]; decide
    · split at h
      · rename_i hs
        rw [hs.1]; decide
      · exact absurd h (by simp)
  · unfold mmw_added_5
    refine ms_isSign ok.2.1 ok.2.2.2.1 (fun hs => ml_1 ?_) (fun hs => ml_0 ?_)
    · unfold mmw_added_23
      rw [mp_tk_wo ok.2.1 (Or.inr hs.1), hs.2, show (43 : Int64) = (43 : Int32).toInt64 from by decide, mp_cmp0]
      refine ⟨fun _ => ?_, fun z => absurd rfl z⟩
      unfold mmw_added_39 mmw_added_62
      refine ms_nxsub hG ok (by rw [hs.1]; decide) (fun w σ' e re => ml_1 ?_)
      exact h1 _ (if_pos hs) w σ' e re
    · refine ms_isSign ok.2.1 ok.2.2.2.1 (fun hm => ml_1 ?_) (fun hm => ml_0 (h0 ?_))
      · unfold mmw_added_23
        rw [mp_tk_wo ok.2.1 (Or.inr hm.1), hm.2, show (43 : Int64) = (43 : Int32).toInt64 from by decide, mp_cmp0]
        refine ⟨fun z => absurd z (by decide), fun _ => ?_⟩
        unfold mmw_added_39 mmw_added_62
        refine ms_nxsub hG ok (by rw [hm.1]; decide) (fun w σ' e re => ml_0 ?_)
        exact h1 (fun x y => x - y) (by unfold pp_s2; rw [if_neg hs, if_pos hm]) w σ' e re
      · unfold pp_s2
        rw [if_neg hs, if_neg hm]
  · unfold mmw_added_5
    exact ms_isSign_bad h (ml_0 (ms_isSign_bad h (ml_0 hq)))
theorem ms_both {P : pp_T → pp_R} (hG : mp_G b n tt (G 2) P r) : mp_G b n tt (mmw_both G) (pp_rk (pp_lx b n) n pp_s4 P) r := by
  intro σ Q t ok hq
  unfold mmw_both
  refine mp_rank hG (sel := pp_s4) (fun t g h => ?_) (fun f σ t v ok h0 h1 => ?_) (fun f v σ h hq => ?_) ok hq
  · unfold pp_s4 at h
    split at h
    · rename_i hs
      rw [hs.1]; decide
    · exact absurd h (by simp)
  · unfold mmw_both_5
    refine ms_isW (k := 4) (by decide) (by decide) ok.1 ok.2.1 ok.2.2.1 ok.2.2.2.1 (fun hs => ml_1 ?_) (fun hs => ml_0 (h0 (if_neg (fun z => hs ((mp_key (by decide)).mpr z)))))
    have hs := (mp_key (by decide)).mp hs
    refine ms_nxsub hG ok (by rw [hs.1]; decide) (fun w σ' e re => ?_)
    have h2 := h1 _ (if_pos hs) w σ' e re
    unfold mmw_both_44 mmw_both_45
    unfold pp_b1 at h2
    refine ⟨fun hv => ?_, fun hv => ⟨fun hw => ?_, fun hw => ?_⟩⟩
    · rw [if_neg (fun z => z.1 hv)] at h2
      exact h2
    · rw [if_neg (fun z => z.2 hw)] at h2
      exact h2
    · rw [if_pos ⟨hv, hw⟩] at h2
      exact h2
  · unfold mmw_both_5
    exact ms_isWord_bad h (ml_0 hq)
theorem ms_either {P : pp_T → pp_R} (hG : mp_G b n tt (G 1) P r) : mp_G b n tt (mmw_either G) (pp_rk (pp_lx b n) n pp_s5 P) r := by
  intro σ Q t ok hq
  unfold mmw_either
  refine mp_rank hG (sel := pp_s5) (fun t g h => ?_) (fun f σ t v ok h0 h1 => ?_) (fun f v σ h hq => ?_) ok hq
  · unfold pp_s5 at h
    split at h
    · rename_i hs
      rw [hs.1]; decide
    · exact absurd h (by simp)
  · unfold mmw_either_5
    refine ms_isW (k := 3) (by decide) (by decide) ok.1 ok.2.1 ok.2.2.1 ok.2.2.2.1 (fun hs => ml_1 ?_) (fun hs => ml_0 (h0 (if_neg (fun z => hs ((mp_key (by decide)).mpr z)))))
    have hs := (mp_key (by decide)).mp hs
    refine ms_nxsub hG ok (by rw [hs.1]; decide) (fun w σ' e re => ?_)
    have h2 := h1 _ (if_pos hs) w σ' e re
    unfold mmw_either_39 mmw_either_44
    unfold pp_b1 at h2
    refine ⟨fun hv => ⟨fun hw => ?_, fun hw => ?_⟩, fun hv => ?_⟩
    · rw [if_neg (fun z => z.elim (fun z => z hv) (fun z => z hw))] at h2
      exact h2
    · rw [if_pos (Or.inr hw)] at h2
      exact h2
    · rw [if_pos (Or.inl hv)] at h2
      exact h2
  · unfold mmw_either_5
    exact ms_isWord_bad h (ml_0 hq)
theorem ms_not {sub : Option (pp_T → pp_R)} {P : pp_T → pp_R} (hr : r ≤ 5) (hs0 : r = 0 → sub = none) (hs1 : ∀ r', r = r' + 1 → ∃ q, sub = some q ∧ mp_G b n tt (G 2) q r') (hG : mp_G b n tt (G 3) P r) : mp_G b n tt (mmw_not G) (pp_not (pp_lx b n) sub P) r := by
  intro σ Q t ok hq
  unfold mmw_not
  unfold pp_not at hq
  refine ms_isW (k := 5) (by decide) (by decide) ok.1 ok.2.1 ok.2.2.1 ok.2.2.2.1 (fun hs => ml_1 ?_) (fun hs => ml_0 ?_)
  · have hs := (mp_key (by decide)).mp hs
    rw [if_pos hs] at hq
    refine ms_opens hr ok (by rw [hs.1]; decide) (fun h0 σ' e hb => ml_0 ?_) (fun r' h1 σ' e ok' v' => ml_1 ?_)
    · rw [hs0 h0] at hq
      exact hq _ σ' e hb
    · obtain ⟨q, hq1, hq2⟩ := hs1 r' h1
      rw [hq1] at hq
      dsimp only at hq
      refine hq2 σ' _ _ ok' (fun v σ'' e2 re => ?_)
      rintro _ rfl
      rw [mp_env_e e] at re
      cases hR : q (pp_lx b n t.2.2.2) with
      | inl p =>
        rw [hR] at hq re
        have hb : mp_bad (gg_s σ'' 0 25 (gg_g σ'' 0 25 - 1)) p := ⟨by rw [gg_ot (by decide)]; exact re.1, by rw [gg_ot (by decide)]; exact re.2⟩
        have he : mp_e mp_l (gg_s σ'' 0 25 (gg_g σ'' 0 25 - 1)) σ := mp_e_tr (mp_e_s (by decide)) (mp_e_tr e2 e)
        exact ⟨fun _ => hq _ _ he hb, fun _ => hq _ _ he hb⟩
      | inr p =>
        obtain ⟨f, t2⟩ := p
        rw [hR] at hq re
        obtain ⟨r1, r2, r3, r4, r5⟩ := re
        have he : mp_e mp_l (gg_s σ'' 0 25 (gg_g σ'' 0 25 - 1)) σ := mp_e_tr (mp_e_s (by decide)) (mp_e_tr e2 e)
        have hre : ∀ w, w = pp_b1 (f (mp_env σ) = 0) → mp_re (mp_env σ) b n (.inr (fun e => pp_b1 (f e = 0), t2)) (t.2.2.1 + 1) r w (gg_s σ'' 0 25 (gg_g σ'' 0 25 - 1)) := by
          intro w hw
          refine ⟨hw, mp_tk_s r2 (by decide) (by decide) (by decide), pp_in_mo r3 (by have := v'.1; have := ok.2.2.1.2.1; omega), by rw [gg_ot (by decide)]; exact r4, ?_⟩
          rw [gg_me, r5, show (1 : Int32) = nI 1 from rfl, pk_sub (by omega), show 5 - r' - 1 = 5 - r by omega]
        rw [← r1] at hre
        exact ⟨fun hv => hq _ _ he (hre _ (by unfold pp_b1; rw [if_pos hv])), fun hv => hq _ _ he (hre _ (by unfold pp_b1; rw [if_neg hv]))⟩
  · rw [if_neg (fun z => hs ((mp_key (by decide)).mpr z))] at hq
    refine hG σ _ t ok (fun v σ' e re => ?_)
    cases hP : P t with
    | inl p =>
      rw [hP] at re hq
      exact ms_isSign_bad re.1 (ml_0 (ms_isSign_bad re.1 (ml_0 (hq v σ' e re))))
    | inr p =>
      obtain ⟨f, t1⟩ := p
      rw [hP] at re hq
      dsimp only at hq
      obtain ⟨r1, r2, r3, r4⟩ := re
      have ok1 : mp_ok σ' b n tt t1 r := ⟨mp_c_e ok.1 e (by decide) (by decide), r2, pp_in_mo r3 (Nat.zero_le _), r4⟩
      have hen := mp_env_e e
      refine ms_isSign r2 r4.1 (fun h60 => ml_1 ?_) (fun h60 => ml_0 ?_)
      · rw [if_pos h60] at hq
        unfold mmw_not_77
        rw [mp_tk_wo r2 (Or.inr h60.1), h60.2, show (60 : Int64) = (60 : Int32).toInt64 from by decide, mp_cmp0]
        refine ⟨fun _ => ?_, fun z => absurd rfl z⟩
        unfold mmw_not_93 mmw_not_120
        refine ms_nxsub hG ok1 (by rw [h60.1]; decide) (fun w σ'' e2 re2 => ml_1 ?_)
        rw [hen] at re2
        cases hR : P (pp_lx b n t1.2.2.2) with
        | inl p =>
          rw [hR] at hq re2
          exact ⟨fun _ => hq _ _ (mp_e_tr e2 e) re2, fun _ => hq _ _ (mp_e_tr e2 e) re2⟩
        | inr p =>
          obtain ⟨g, t2⟩ := p
          rw [hR] at hq re2
          obtain ⟨q1, q2, q3, q4⟩ := re2
          have hre : ∀ x, x = pp_b1 (f (mp_env σ) < g (mp_env σ)) → mp_re (mp_env σ) b n (.inr (fun e => pp_b1 (f e < g e), t2)) (t.2.2.1 + 1) r x σ'' :=
            fun x hx => ⟨hx, q2, pp_in_mo q3 (by have := r3.1; omega), q4⟩
          rw [← r1, ← q1] at hre
          unfold pp_b1 at hre
          rw [← Int32.not_lt, Decidable.not_not]
          exact ⟨fun h => hq _ _ (mp_e_tr e2 e) (hre _ (by rw [if_neg h])), fun h => hq _ _ (mp_e_tr e2 e) (hre _ (by rw [if_pos h]))⟩
      · rw [if_neg h60] at hq
        refine ms_isSign r2 r4.1 (fun h61 => ml_1 ?_) (fun h61 => ml_0 ?_)
        · rw [if_pos h61] at hq
          unfold mmw_not_77
          rw [mp_tk_wo r2 (Or.inr h61.1), h61.2, show (60 : Int64) = (60 : Int32).toInt64 from by decide, mp_cmp0]
          refine ⟨fun z => absurd z (by decide), fun _ => ?_⟩
          unfold mmw_not_93 mmw_not_120
          refine ms_nxsub hG ok1 (by rw [h61.1]; decide) (fun w σ'' e2 re2 => ml_0 ?_)
          rw [hen] at re2
          cases hR : P (pp_lx b n t1.2.2.2) with
          | inl p =>
            rw [hR] at hq re2
            exact ⟨fun _ => hq _ _ (mp_e_tr e2 e) re2, fun _ => hq _ _ (mp_e_tr e2 e) re2⟩
          | inr p =>
            obtain ⟨g, t2⟩ := p
            rw [hR] at hq re2
            obtain ⟨q1, q2, q3, q4⟩ := re2
            have hre : ∀ x, x = pp_b1 (f (mp_env σ) = g (mp_env σ)) → mp_re (mp_env σ) b n (.inr (fun e => pp_b1 (f e = g e), t2)) (t.2.2.1 + 1) r x σ'' :=
              fun x hx => ⟨hx, q2, pp_in_mo q3 (by have := r3.1; omega), q4⟩
            rw [← r1, ← q1] at hre
            unfold pp_b1 at hre
            exact ⟨fun h => hq _ _ (mp_e_tr e2 e) (hre _ (by rw [if_pos h])), fun h => hq _ _ (mp_e_tr e2 e) (hre _ (by rw [if_neg h]))⟩
        · rw [if_neg h61] at hq
          exact hq v σ' e ⟨r1, r2, r3, r4⟩
end MPG
section MPA
variable {G : Nat → gg_S → (Int32 → gg_S → Prop) → Prop} {r : Nat}
theorem ms_atom {sub : Option ((pp_T → pp_R) × (pp_T → pp_R))} (hr : r ≤ 5) (hs0 : r = 0 → sub = none) (hs1 : ∀ r', r = r' + 1 → ∃ q, sub = some q ∧ mp_G b n tt (G 5) q.1 r' ∧ mp_G b n tt (G 0) q.2 r') : mp_G b n tt (mmw_atom G) (pp_atom (pp_lx b n) sub) r := by
  intro σ Q t ok hq
  have v21 := ok.2.2.1.2.1
  unfold mmw_atom
  unfold pp_atom at hq
  refine ms_isSign ok.2.1 ok.2.2.2.1 (fun hs => ml_1 ?_) (fun n45 => ml_0 ?_)
  · rw [if_pos hs] at hq
    refine ms_opens hr ok (by rw [hs.1]; decide) (fun h0 σ' e hb => ml_0 ?_) (fun r' h1 σ' e ok' v' => ml_1 ?_)
    · rw [hs0 h0] at hq
      exact hq _ σ' e hb
    · obtain ⟨q, hq1, hq2, _⟩ := hs1 r' h1
      rw [hq1] at hq
      dsimp only at hq
      refine hq2 σ' _ _ ok' (fun v σ'' e2 re => ?_)
      rintro _ rfl
      rw [mp_env_e e] at re
      have he : mp_e mp_l (gg_s σ'' 0 25 (gg_g σ'' 0 25 - 1)) σ := mp_e_tr (mp_e_s (by decide)) (mp_e_tr e2 e)
      cases hR : q.1 (pp_lx b n t.2.2.2) with
      | inl p =>
        rw [hR] at hq re
        exact hq _ _ he ⟨by rw [gg_ot (by decide)]; exact re.1, by rw [gg_ot (by decide)]; exact re.2⟩
      | inr p =>
        obtain ⟨f, t2⟩ := p
        rw [hR] at hq re
        obtain ⟨r1, r2, r3, r4, r5⟩ := re
        refine hq _ _ he ⟨by rw [r1], mp_tk_s r2 (by decide) (by decide) (by decide), pp_in_mo r3 (by have := v'.1; omega), by rw [gg_ot (by decide)]; exact r4, ?_⟩
        rw [gg_me, r5, show (1 : Int32) = nI 1 from rfl, pk_sub (by omega), show 5 - r' - 1 = 5 - r by omega]
  · rw [if_neg n45] at hq
    refine ms_isSign ok.2.1 ok.2.2.2.1 (fun hs => ml_1 ?_) (fun n40 => ml_0 ?_)
    · rw [if_pos hs] at hq
      refine ms_opens hr ok (by rw [hs.1]; decide) (fun h0 σ' e hb => ml_0 ?_) (fun r' h1 σ' e ok' v' => ml_1 ?_)
      · rw [hs0 h0] at hq
        exact hq _ σ' e hb
      · obtain ⟨q, hq1, _, hq2⟩ := hs1 r' h1
        rw [hq1] at hq
        dsimp only at hq
        refine hq2 σ' _ _ ok' (fun v σ'' e2 re => ?_)
        rw [mp_env_e e] at re
        have e3 := mp_e_tr e2 e
        cases hR : q.2 (pp_lx b n t.2.2.2) with
        | inl p =>
          rw [hR] at hq re
          refine ms_isSign_bad re.1 (ml_0 (ms_fail_bad re.1 ?_))
          unfold mmw_atom_71
          rintro _ rfl
          rw [gg_ot (by decide), re.1]
          exact ml_1 (hq _ _ (mp_e_tr (mp_e_s (by decide)) e3) ⟨by rw [gg_ot (by decide)]; exact re.1, by rw [gg_ot (by decide)]; exact re.2⟩)
        | inr p =>
          obtain ⟨f, t2⟩ := p
          rw [hR] at hq re
          dsimp only at hq
          obtain ⟨r1, r2, r3, r4, r5⟩ := re
          refine ms_isSign r2 r4 (fun h41 => ml_1 ?_) (fun h41 => ml_0 (ms_fail r2 r4 (fun σ3 e4 hb => ?_)))
          · rw [if_pos h41] at hq
            unfold mmw_atom_71
            rintro _ rfl
            rw [gg_ot (by decide), r4]
            refine ml_0 ?_
            have ok3 : mp_ok (gg_s σ'' 0 25 (gg_g σ'' 0 25 - 1)) b n tt t2 r := by
              refine ⟨mp_c_s (mp_c_e ok.1 e3 (by decide) (by decide)) (by decide) (by decide), mp_tk_s r2 (by decide) (by decide) (by decide), pp_in_mo r3 (Nat.zero_le _), by rw [gg_ot (by decide)]; exact r4, ?_⟩
              rw [gg_me, r5, show (1 : Int32) = nI 1 from rfl, pk_sub (by omega), show 5 - r' - 1 = 5 - r by omega]
            refine ms_nxt ok3 (by rw [h41.1]; decide) (fun σ4 e4 ok4 v4 => hq _ _ (mp_e_tr (mp_es (mp_e_mo e4 (by decide)) (by decide)) e3) ⟨r1, ok4.2.1, pp_in_mo v4 (by have := v'.1; have := r3.1; have := r3.2.1; omega), ok4.2.2.2⟩)
          · rw [if_neg h41] at hq
            unfold mmw_atom_71
            rintro _ rfl
            rw [gg_ot (by decide), hb.1]
            exact ml_1 (hq _ _ (mp_e_tr (mp_e_s (by decide)) (mp_e_tr (mp_e_mo e4 (by decide)) e3)) ⟨by rw [gg_ot (by decide)]; exact hb.1, by rw [gg_ot (by decide)]; exact hb.2⟩)
    · rw [if_neg n40] at hq
      obtain ⟨c, ht, hv, h26, h25⟩ := ok
      rw [h26, mp_tk_nu ht]
      refine ml_0 ⟨fun h3 => ?_, fun h3 => ?_⟩
      · rw [if_pos h3] at hq
        rw [mp_tk_wo ht (Or.inl h3), Int32.toInt32_toInt64]
        exact ms_nextT c ht hv (by rw [h3]; decide) (fun σ' e c' t' v' => hq _ σ' (mp_e_mo e (by decide)) ⟨rfl, t', pp_in_mo v' (by have := hv.2.2.2.2 (by rw [h3]; decide); omega), by rw [e.2 26 (by decide)]; exact h26, by rw [e.2 25 (by decide)]; exact h25⟩)
      · rw [if_neg h3] at hq
        unfold mmw_atom_123 mmw_atom_157
        rw [h26]
        refine ml_0 ⟨fun h1 => ?_, fun h1 => ?_⟩
        · refine ms_name ⟨c, ht, hv, h26, h25⟩ h1 (fun k hk h2 hw => ?_) (fun h2 σ' e hb => ?_)
          · rw [if_pos h2, hw, ml_cl (by omega)] at hq
            rw [h26]
            refine ml_0 (ms_nxt ⟨c, ht, hv, h26, h25⟩ (by rw [h2]; decide) (fun σ' e ok' v' => hq _ _ (mp_e_mo e (by decide)) ⟨rfl, ok'.2.1, pp_in_mo v' (by have := hv.2.2.2.2 (by rw [h2]; decide); omega), ok'.2.2.2⟩))
          · rw [if_neg h2] at hq
            rw [hb.1]
            exact ml_1 (hq _ _ (mp_e_mo e (by decide)) hb)
        · rw [if_neg (fun z => h1 (mp_tk_na ht z))] at hq
          exact ms_fail ht h26 (fun σ' e hb => hq _ _ (mp_e_mo e (by decide)) hb)
end MPA
theorem mp_g0 {d : Nat} : mmw_g_parse (d + 1) 0 = mmw_either (mmw_g_parse d) := by funext σ Q; rfl
theorem mp_g1 {d : Nat} : mmw_g_parse (d + 1) 1 = mmw_both (mmw_g_parse d) := by funext σ Q; rfl
theorem mp_g2 {d : Nat} : mmw_g_parse (d + 1) 2 = mmw_not (mmw_g_parse d) := by funext σ Q; rfl
theorem mp_g3 {d : Nat} : mmw_g_parse (d + 1) 3 = mmw_added (mmw_g_parse d) := by funext σ Q; rfl
theorem mp_g4 {d : Nat} : mmw_g_parse (d + 1) 4 = mmw_term (mmw_g_parse d) := by funext σ Q; rfl
theorem mp_g5 {d : Nat} : mmw_g_parse (d + 1) 5 = mmw_atom (mmw_g_parse d) := by funext σ Q; rfl
/-- all six, with r levels left, at a depth that suffices -/
theorem mp_fam (r : Nat) : r ≤ 5 → ∀ d, 6 * r ≤ d → mp_G b n tt (mmw_g_parse (d + 1) 5) (pp_fam (pp_lx b n) n r 0) r ∧ mp_G b n tt (mmw_g_parse (d + 4) 2) (pp_fam (pp_lx b n) n r 3) r ∧ mp_G b n tt (mmw_g_parse (d + 6) 0) (pp_fam (pp_lx b n) n r 5) r := by
  have key : ∀ (r : Nat) (sub : Option ((pp_T → pp_R) × (pp_T → pp_R))) (sub2 : Option (pp_T → pp_R)) (d : Nat), r ≤ 5 → (r = 0 → sub = none) → (r = 0 → sub2 = none) →
      (∀ r', r = r' + 1 → ∀ e, d ≤ e → ∃ q, sub = some q ∧ mp_G b n tt (mmw_g_parse e 5) q.1 r' ∧ mp_G b n tt (mmw_g_parse e 0) q.2 r') → (∀ r', r = r' + 1 → ∀ e, d ≤ e → ∃ q, sub2 = some q ∧ mp_G b n tt (mmw_g_parse e 2) q r') →
      mp_G b n tt (mmw_g_parse (d + 1) 5) (pp_atom (pp_lx b n) sub) r ∧ mp_G b n tt (mmw_g_parse (d + 4) 2) (pp_not (pp_lx b n) sub2 (pp_rk (pp_lx b n) n pp_s2 (pp_rk (pp_lx b n) n pp_s1 (pp_atom (pp_lx b n) sub)))) r ∧
      mp_G b n tt (mmw_g_parse (d + 6) 0) (pp_rk (pp_lx b n) n pp_s5 (pp_rk (pp_lx b n) n pp_s4 (pp_not (pp_lx b n) sub2 (pp_rk (pp_lx b n) n pp_s2 (pp_rk (pp_lx b n) n pp_s1 (pp_atom (pp_lx b n) sub)))))) r := by
    intro r sub sub2 d hr h1 h2 h3 h4
    have hA : mp_G b n tt (mmw_g_parse (d + 1) 5) (pp_atom (pp_lx b n) sub) r := by
      rw [mp_g5]
      exact ms_atom hr h1 (fun r' e => h3 r' e d (Nat.le_refl _))
    have hT : mp_G b n tt (mmw_g_parse (d + 2) 4) (pp_rk (pp_lx b n) n pp_s1 (pp_atom (pp_lx b n) sub)) r := by
      rw [mp_g4]
      exact ms_term hA
    have hP : mp_G b n tt (mmw_g_parse (d + 3) 3) (pp_rk (pp_lx b n) n pp_s2 (pp_rk (pp_lx b n) n pp_s1 (pp_atom (pp_lx b n) sub))) r := by
      rw [mp_g3]
      exact ms_added hT
    have hN : mp_G b n tt (mmw_g_parse (d + 4) 2) (pp_not (pp_lx b n) sub2 (pp_rk (pp_lx b n) n pp_s2 (pp_rk (pp_lx b n) n pp_s1 (pp_atom (pp_lx b n) sub)))) r := by
      rw [mp_g2]
      exact ms_not hr h2 (fun r' e => h4 r' e (d + 3) (by omega)) hP
    have hB : mp_G b n tt (mmw_g_parse (d + 5) 1) (pp_rk (pp_lx b n) n pp_s4 (pp_not (pp_lx b n) sub2 (pp_rk (pp_lx b n) n pp_s2 (pp_rk (pp_lx b n) n pp_s1 (pp_atom (pp_lx b n) sub))))) r := by
      rw [mp_g1]
      exact ms_both hN
    refine ⟨hA, hN, ?_⟩
    rw [mp_g0]
    exact ms_either hB
  induction r with
  | zero =>
    intro hr d hd
    exact key 0 none none d (by omega) (fun _ => rfl) (fun _ => rfl) (fun r' h => by omega) (fun r' h => by omega)
  | succ r ih =>
    intro hr d hd
    refine key (r + 1) (some (pp_fam (pp_lx b n) n r 0, pp_fam (pp_lx b n) n r 5)) (some (pp_fam (pp_lx b n) n r 3)) d hr (fun h => by omega) (fun h => by omega) (fun r' h e he => ?_) (fun r' h e he => ?_)
    · obtain rfl : r = r' := by omega
      refine ⟨_, rfl, ?_, ?_⟩
      · have := (ih (by omega) (e - 1) (by omega)).1
        rwa [show e - 1 + 1 = e by omega] at this
      · have := (ih (by omega) (e - 6) (by omega)).2.2
        rwa [show e - 6 + 6 = e by omega] at this
    · obtain rfl : r = r' := by omega
      refine ⟨_, rfl, ?_⟩
      have := (ih (by omega) (e - 4) (by omega)).2.1
      rwa [show e - 4 + 4 = e by omega] at this
/-- one part; 'a': is its key at hand? -/
theorem ms_part {Q : Int32 → gg_S → Prop} {t : pp_T} {k : Nat} {a : Int32} (hk : k < 6) (ok : mp_ok σ b n tt t 5) (ha1 : pp_key t k → a = 1) (ha0 : ¬ pp_key t k → a = 0)
    (hq : ∀ v σ', mp_e mp_l σ' σ → mp_re (mp_env σ) b n (pp_part (pp_lx b n) n k t) 0 5 v σ' → Q v σ') : mmw_part a σ Q := by
  have end_bad : ∀ v σ' p, gg_g σ' 0 26 = 1 → mp_e mp_l σ' σ → mp_bad σ' p → pp_part (pp_lx b n) n k t = .inl p → mmw_part_34 Q v σ' := by
    intro v σ' p h e hb hp
    unfold mmw_part_34 mmw_part_48
    refine ms_isSign_bad h (ml_0 (ms_fail_bad h ?_))
    rw [h]
    refine ml_1 (hq v σ' e ?_)
    rw [hp]
    exact hb
  unfold mmw_part
  by_cases hy : pp_key t k
  · rw [ha1 hy]
    refine ml_1 ?_
    unfold mmw_part_8
    rw [ok.2.2.2.1]
    refine ml_0 (ms_nxt ok (by rw [hy.1]; decide) (fun σ1 e1 ok1 v1 => ?_))
    unfold mmw_part_19
    rw [ok1.2.2.2.1]
    refine ml_0 ?_
    refine (mp_fam 5 (by decide) 36 (by decide)).2.2 σ1 _ _ ok1 (fun v σ2 e2 re => ?_)
    have e3 : mp_e mp_l σ2 σ := mp_e_tr e2 (mp_e_mo e1 (by decide))
    rw [mp_env_e (mp_e_mo e1 (by decide))] at re
    cases hR : pp_fam (pp_lx b n) n 5 5 (pp_lx b n t.2.2.2) with
    | inl p =>
      rw [hR] at re
      refine end_bad v σ2 p re.1 e3 re ?_
      unfold pp_part
      rw [if_pos hy, hR]
    | inr p =>
      obtain ⟨f, t1⟩ := p
      rw [hR] at re
      obtain ⟨r1, r2, r3, r4, r5⟩ := re
      unfold mmw_part_34
      refine ms_isSign r2 r4 (fun h59 => ml_1 ?_) (fun h59 => ml_0 (ms_fail r2 r4 (fun σ3 e4 hb => ?_)))
      · unfold mmw_part_48
        rw [r4]
        refine ml_0 (ms_nxt (r := 5) ⟨mp_c_e ok.1 e3 (by decide) (by decide), r2, pp_in_mo r3 (Nat.zero_le _), r4, r5⟩ (by rw [h59.1]; decide) (fun σ4 e4 ok4 v4 => hq v σ4 (mp_e_tr (mp_e_mo e4 (by decide)) e3) ?_))
        unfold pp_part
        rw [if_pos hy, hR]
        dsimp only
        rw [if_pos h59]
        exact ⟨r1, ok4.2⟩
      · unfold mmw_part_48
        rw [hb.1]
        refine ml_1 (hq v σ3 (mp_e_tr (mp_e_mo e4 (by decide)) e3) ?_)
        unfold pp_part
        rw [if_pos hy, hR]
        dsimp only
        rw [if_neg h59]
        exact hb
  · rw [ha0 hy]
    refine ml_0 (ms_fail ok.2.1 ok.2.2.2.1 (fun σ1 e1 hb => ?_))
    unfold mmw_part_8
    rw [hb.1]
    refine ml_1 ?_
    unfold mmw_part_19
    rw [hb.1]
    refine ml_1 (end_bad 0 σ1 _ hb.1 (mp_e_mo e1 (by decide)) hb ?_)
    unfold pp_part
    rw [if_neg hy]
/-- what 'read' leaves -/
def mp_rd (en : Nat → Int32) (R : Nat ⊕ (Nat → pp_F)) (w : Nat) (v : Int32) (σ' : gg_S) : Prop := match R with
  | .inl p => mp_bad σ' p
  | .inr f => gg_g σ' 0 26 = 0 ∧ v = f w en
abbrev mp_l2 : List Nat := [19, 20, 21, 22, 23, 25, 26, 27]
theorem mp_tk_0 {t : pp_T} (ht : mp_tk σ b t) : gg_g σ 0 22 = 0 ↔ t.1 = 0 := by
  have hwk : ∀ w, w < 13 → (mp_wk w).1 ≠ 0 := by decide
  rcases ht.2.2 with ⟨e, f⟩ | ⟨f, _, e⟩ | ⟨e, f, _⟩ | ⟨e, f, _⟩ | ⟨e, f⟩
  · rw [e, f]; decide
  · rw [f]
    have := hwk (pp_wd b t.2.2.1 t.2.2.2) (by have := pp_wd_le (b := b) (s := t.2.2.1) (e := t.2.2.2); omega)
    rw [← e] at this
    exact ⟨fun z => absurd z (by decide), fun z => absurd z this⟩
  · rw [e, f]; decide
  · rw [e, f]; decide
  · rw [e, f]; decide
theorem ms_wpart {Q : Int32 → gg_S → Prop} {t : pp_T} {k : Nat} {a1 a2 a3 a4 a5 a6 a7 a8 : Int32} (hk : k < 6) (l : (pp_w k).getD 0 0 = a1 ∧ (pp_w k).getD 1 0 = a2 ∧ (pp_w k).getD 2 0 = a3 ∧ (pp_w k).getD 3 0 = a4 ∧ (pp_w k).getD 4 0 = a5 ∧ (pp_w k).getD 5 0 = a6 ∧ (pp_w k).getD 6 0 = a7 ∧ (pp_w k).getD 7 0 = a8)
    (ok : mp_ok σ b n tt t 5) (hq : ∀ v σ', mp_e mp_l σ' σ → mp_re (mp_env σ) b n (pp_part (pp_lx b n) n k t) 0 5 v σ' → Q v σ') : mmw_isWord a1 a2 a3 a4 a5 a6 a7 a8 σ (fun r σ1 => mmw_part r σ1 Q) :=
  ms_isW (by omega) l ok.1 ok.2.1 ok.2.2.1 ok.2.2.2.1 (fun h => ms_part hk ok (fun _ => rfl) (fun z => absurd ((mp_key hk).mp h) z) hq) (fun h => ms_part hk ok (fun z => absurd ((mp_key hk).mpr z) h) (fun _ => rfl) hq)
theorem ms_147 {Q : Int32 → gg_S → Prop} {w : Nat} {x3 x4 x5 : Int32} (hw : w < 3) (hq : Q (if w = 0 then x3 else if w = 1 then x4 else x5) σ) : mmw_read_147 Q (nI w) x3 x4 x5 σ := by
  unfold mmw_read_147
  rw [show (0 : Int32) = nI 0 from rfl, show (1 : Int32) = nI 1 from rfl, nI_eq (by omega) (by decide), nI_eq (by omega) (by decide)]
  refine ⟨fun h => ?_, fun h => ⟨fun h' => ?_, fun h' => ?_⟩⟩
  · rw [if_pos h] at hq; exact hq
  · rw [if_neg h, if_pos h'] at hq; exact hq
  · rw [if_neg h, if_neg h'] at hq; exact hq
theorem ms_read {Q : Int32 → gg_S → Prop} {w : Nat} (hw : w < 3) (ht : tt < 6) (hn : n ≤ 160) (hz : gg_g σ 2 tt = nI n) (hb1 : ∀ i, gg_g σ 1 (160 * tt + i) = b i) (hby : pp_by b n)
    (hq : ∀ v σ', mp_e mp_l2 σ' σ → mp_rd (mp_env σ) (pp_tx b n) w v σ' → Q v σ') : mmw_read (nI tt) (nI w) σ Q := by
  unfold mmw_read
  rintro _ rfl
  rw [ml_cl (by omega)]
  refine ⟨ml_in ht (by decide), ?_⟩
  rintro _ rfl _ rfl _ rfl _ rfl
  rw [gg_row _ 0 19 _ (show (2 : Nat) ≠ 0 by decide), hz, show (160 : Int32) * nI tt = nI (160 * tt) from pk_mul 160 tt]
  have hc : mp_c (gg_s (gg_s (gg_s (gg_s (gg_s σ 0 19 (nI (160 * tt))) 0 20 (nI n)) 0 21 0) 0 25 0) 0 26 0) b n tt := by
    refine ⟨ht, hn, ?_, ?_, fun i => ?_, hby⟩
    · rw [gg_ot (by decide), gg_ot (by decide), gg_ot (by decide), gg_ot (by decide), gg_me]
    · rw [gg_ot (by decide), gg_ot (by decide), gg_ot (by decide), gg_me]
    · rw [gg_row _ 0 26 _ (show (1 : Nat) ≠ 0 by decide), gg_row _ 0 25 _ (show (1 : Nat) ≠ 0 by decide), gg_row _ 0 21 _ (show (1 : Nat) ≠ 0 by decide), gg_row _ 0 20 _ (show (1 : Nat) ≠ 0 by decide), gg_row _ 0 19 _ (show (1 : Nat) ≠ 0 by decide)]
      exact hb1 i
  have he : mp_e mp_l2 (gg_s (gg_s (gg_s (gg_s (gg_s σ 0 19 (nI (160 * tt))) 0 20 (nI n)) 0 21 0) 0 25 0) 0 26 0) σ := mp_es (mp_es (mp_es (mp_es (mp_es mp_e_rf (by decide)) (by decide)) (by decide)) (by decide)) (by decide)
  have g21 : gg_g (gg_s (gg_s (gg_s (gg_s (gg_s σ 0 19 (nI (160 * tt))) 0 20 (nI n)) 0 21 0) 0 25 0) 0 26 0) 0 21 = nI 0 := by rw [gg_ot (by decide), gg_ot (by decide), gg_me]; rfl
  have g25 : gg_g (gg_s (gg_s (gg_s (gg_s (gg_s σ 0 19 (nI (160 * tt))) 0 20 (nI n)) 0 21 0) 0 25 0) 0 26 0) 0 25 = nI (5 - 5) := by rw [gg_ot (by decide), gg_me]; rfl
  have g26 : gg_g (gg_s (gg_s (gg_s (gg_s (gg_s σ 0 19 (nI (160 * tt))) 0 20 (nI n)) 0 21 0) 0 25 0) 0 26 0) 0 26 = 0 := gg_me
  have hen : mp_env (gg_s (gg_s (gg_s (gg_s (gg_s σ 0 19 (nI (160 * tt))) 0 20 (nI n)) 0 21 0) 0 25 0) 0 26 0) = mp_env σ := by
    unfold mp_env
    rw [he.2 13 (by decide), he.2 14 (by decide), he.2 15 (by decide), he.2 16 (by decide), he.2 17 (by decide), he.2 18 (by decide)]
  revert hc he g21 g25 g26 hen
  generalize gg_s (gg_s (gg_s (gg_s (gg_s σ 0 19 (nI (160 * tt))) 0 20 (nI n)) 0 21 0) 0 25 0) 0 26 0 = τ
  intro hc he g21 g25 g26 hen
  refine ms_next hc (Nat.zero_le _) g21 (fun σ1 e1 t1 => ?_)
  have ok1 : mp_ok σ1 b n tt (pp_lx b n 0) 5 := ⟨mp_c_e hc e1 (by decide) (by decide), t1, pp_lx_in hby (Nat.zero_le _), by rw [e1.2 26 (by decide)]; exact g26, by rw [e1.2 25 (by decide)]; exact g25⟩
  have he1 : mp_e mp_l2 σ1 σ := mp_e_tr (mp_e_mo e1 (by decide)) he
  have hen1 : mp_env σ1 = mp_env σ := by rw [mp_env_e (mp_e_mo e1 (by decide))]; exact hen
  have tobad : ∀ x3 x4 x5 σ2 p, mp_e mp_l2 σ2 σ → mp_bad σ2 p → pp_tx b n = .inl p → mmw_read_127 Q (nI w) x3 x4 x5 σ2 := by
    intro x3 x4 x5 σ2 p e hb hp
    unfold mmw_read_127
    rw [hb.1]
    refine ml_1 (ms_147 hw (hq _ σ2 e ?_))
    rw [hp]
    exact hb
  refine ms_wpart (k := 0) (by decide) (by decide) ok1 (fun v0 σ2 e2 re0 => ?_)
  have he2 : mp_e mp_l2 σ2 σ := mp_e_tr (mp_e_mo e2 (by decide)) he1
  rw [hen1] at re0
  cases hR0 : pp_part (pp_lx b n) n 0 (pp_lx b n 0) with
  | inl p =>
    rw [hR0] at re0
    rw [re0.1]
    refine ml_1 ?_
    unfold mmw_read_92
    rw [re0.1]
    refine ml_1 (tobad _ _ _ σ2 p he2 re0 ?_)
    unfold pp_tx
    rw [hR0]
  | inr q =>
    obtain ⟨f0, t0⟩ := q
    rw [hR0] at re0
    obtain ⟨q1, q2⟩ := re0
    rw [q2.2.2.1]
    refine ml_0 ?_
    have ok2 : mp_ok σ2 b n tt t0 5 := ⟨mp_c_e ok1.1 e2 (by decide) (by decide), q2⟩
    refine ms_wpart (k := 1) (by decide) (by decide) ok2 (fun v1 σ3 e3 re1 => ?_)
    have he3 : mp_e mp_l2 σ3 σ := mp_e_tr (mp_e_mo e3 (by decide)) he2
    rw [mp_env_e e2, hen1] at re1
    unfold mmw_read_92
    cases hR1 : pp_part (pp_lx b n) n 1 t0 with
    | inl p =>
      rw [hR1] at re1
      rw [re1.1]
      refine ml_1 (tobad _ _ _ σ3 p he3 re1 ?_)
      unfold pp_tx
      rw [hR0]
      dsimp only
      rw [hR1]
    | inr q =>
      obtain ⟨f1, t2⟩ := q
      rw [hR1] at re1
      obtain ⟨q3, q4⟩ := re1
      rw [q4.2.2.1]
      refine ml_0 ?_
      have ok3 : mp_ok σ3 b n tt t2 5 := ⟨mp_c_e ok2.1 e3 (by decide) (by decide), q4⟩
      refine ms_wpart (k := 2) (by decide) (by decide) ok3 (fun v2 σ4 e4 re2 => ?_)
      have he4 : mp_e mp_l2 σ4 σ := mp_e_tr (mp_e_mo e4 (by decide)) he3
      rw [mp_env_e e3, mp_env_e e2, hen1] at re2
      cases hR2 : pp_part (pp_lx b n) n 2 t2 with
      | inl p =>
        rw [hR2] at re2
        refine tobad _ _ _ σ4 p he4 re2 ?_
        unfold pp_tx
        rw [hR0]
        dsimp only
        rw [hR1]
        dsimp only
        rw [hR2]
      | inr q =>
        obtain ⟨f2, t3⟩ := q
        rw [hR2] at re2
        obtain ⟨q5, q6⟩ := re2
        unfold mmw_read_127
        rw [q6.2.2.1, mp_tk_0 q6.1]
        refine ml_0 ⟨fun h0 => ms_147 hw (hq _ σ4 he4 ?_), fun h0 => ms_fail q6.1 q6.2.2.1 (fun σ5 e5 hb => ms_147 hw (hq _ σ5 (mp_e_tr (mp_e_mo e5 (by decide)) he4) ?_))⟩
        · unfold pp_tx
          rw [hR0]
          dsimp only
          rw [hR1]
          dsimp only
          rw [hR2]
          dsimp only
          rw [if_pos h0]
          refine ⟨q6.2.2.1, ?_⟩
          dsimp only
          rw [q1, q3, q5]
          split
          · rfl
          · split <;> rfl
        · unfold pp_tx
          rw [hR0]
          dsimp only
          rw [hR1]
          dsimp only
          rw [hR2]
          dsimp only
          rw [if_neg h0]
          exact hb
end MP
