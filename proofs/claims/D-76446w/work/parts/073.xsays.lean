/-! A TEXT'S TREE: what a node in the pool is worth -/
def xx_two (s p q : Int32) : Int32 := if s = 43 then p + q else if s = 45 then p - q else if s = 42 then p * q else if s = 60 then pp_b1 (p < q) else if s = 61 then pp_b1 (p = q) else if s = 38 then pp_b1 (p ≠ 0 ∧ q ≠ 0) else pp_b1 (p ≠ 0 ∨ q ≠ 0)
/-- the node at y, of at most that depth, is worth F -/
def xx_nd (χ : xx_S) : Nat → Nat → pp_F → Prop
  | 0, _, _ => False
  | d + 1, y, F => y ∈ xx_L χ ∧ (
    (∃ v : Int32, xx_f χ y = .inr (5, [.int v]) ∧ F = fun _ => v) ∨
    (∃ w : Nat, w ≤ 5 ∧ xx_f χ y = .inr (6, [.int (nI w), va_rf (xx_r χ 0 0)]) ∧ F = fun e => e w) ∨
    (∃ (a : Nat) (g : pp_F), xx_f χ y = .inr (4, [.ref a, .int 1]) ∧ xx_nd χ d a g ∧ F = fun e => -g e) ∨
    (∃ (a : Nat) (g : pp_F), xx_f χ y = .inr (4, [.ref a, .int 0]) ∧ xx_nd χ d a g ∧ F = fun e => pp_b1 (g e = 0)) ∨
    (∃ (s : Int32) (a b : Nat) (g h : pp_F), xx_f χ y = .inr (7, [.int s, .ref a, .ref b]) ∧ xx_nd χ d a g ∧ xx_nd χ d b h ∧ F = fun e => xx_two s (g e) (h e)))
def xx_env (χ : xx_S) : Nat → Int32 := ma_env (xx_g χ 0 7) (xx_g χ 0 8) (xx_g χ 0 9) (xx_g χ 0 2) (xx_g χ 0 10) (xx_g χ 0 11)
/-- what 'says' asks and answers: the text at hand has a tree for its part -/
def xxw_says (a1 a2 a3 a4 : Int32) (σ : xx_S) (Q : Int32 → xx_S → Prop) : Prop :=
  vp_in (xx_g σ 0 24) 6 ∧ vp_in a1 3 ∧ ∃ (t y : Nat) (f : Nat → Option Nat) (F : pp_F), xx_r σ 44 (xx_g σ 0 24).toNatClampNeg = some t ∧ t ∈ xx_L σ ∧ xx_f σ t = .inl (7, xx_q 3 f) ∧ f a1.toNatClampNeg = some y ∧
    xx_nd σ 200 y F ∧ Q (F (xx_env (xx_s (xx_s (xx_s σ 0 7 a2) 0 8 a3) 0 11 a4))) (xx_s (xx_s (xx_s σ 0 7 a2) 0 8 a3) 0 11 a4)
abbrev xxr_says : Room := { frames := 202, cells := 0, slots := 0, locals := 6000 }
theorem xxt_says (l : Launch) {D : va_G} {E : Nat → ClassId} {A : Nat → Prop} {ad sk : Nat → Nat} (a1 a2 a3 a4 : Int32) (σ : xx_S) {Q : Int32 → xx_S → Prop} (hw : xxw_says a1 a2 a3 a4 σ Q) :
    Met l yX0_says (ws_ yX0_says cX0_says 5 (some .int)) xxr_says (va_Pc [.ref (ad 0), .int a1, .int a2, .int a3, .int a4] (fun U => xx_V D E A ad sk σ U U.heap)) (va_Qi Q (fun u t => xx_W D E A ad sk u t t.heap) A) 0 0 A := by
  sorry
theorem cd_X0_says : yX0_says.cls = RX0 ∧ yX0_says.cls ≠ "java/lang/invoke/MethodHandle" ∧ yX0_says.cls ≠ "java/lang/invoke/VarHandle" ∧ (parseMethodDescriptor yX0_says.desc).map (fun d => d.parameters.length) = some 4 := by decide +kernel
