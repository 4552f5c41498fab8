/-! THE CLASS'S WORLD: ints by cell and place, references by cell and place, and a pool of objects and arrays that come and go -/
abbrev xx_S : Type := (Nat → Nat → Int32) × (Nat → Nat → Option Nat) × List Nat × (Nat → va_E)
def xx_g (χ : xx_S) (i k : Nat) : Int32 := χ.1 i k
def xx_r (χ : xx_S) (i k : Nat) : Option Nat := χ.2.1 i k
def xx_L (χ : xx_S) : List Nat := χ.2.2.1
def xx_f (χ : xx_S) : Nat → va_E := χ.2.2.2
def xx_up {α : Type} (f : Nat → Nat → α) (i k : Nat) (v : α) : Nat → Nat → α := fun a => if a = i then (fun b => if b = k then v else f i b) else f a
def xx_s (χ : xx_S) (i k : Nat) (v : Int32) : xx_S := (xx_up χ.1 i k v, χ.2)
/-- a whole row of ints -/
def xx_sr (χ : xx_S) (i : Nat) (f : Nat → Int32) : xx_S := (fun a => if a = i then f else χ.1 a, χ.2)
def xx_rs (χ : xx_S) (i k : Nat) (v : Option Nat) : xx_S := (χ.1, xx_up χ.2.1 i k v, χ.2.2)
def xx_ps (χ : xx_S) (y : Nat) (e : va_E) : xx_S := (χ.1, χ.2.1, χ.2.2.1, va_up χ.2.2.2 y e)
def xx_nw (χ : xx_S) (y : Nat) (e : va_E) : xx_S := (χ.1, χ.2.1, χ.2.2.1 ++ [y], va_up χ.2.2.2 y e)
theorem xx_up_at {α : Type} (f : Nat → Nat → α) (i k : Nat) (v : α) (j q : Nat) : xx_up f i k v j q = if j = i ∧ q = k then v else f j q := by
  unfold xx_up
  by_cases h : j = i
  · subst h
    by_cases h2 : q = k <;> simp [h2]
  · simp [h]
theorem xx_up_row {α : Type} (f : Nat → Nat → α) (i k : Nat) (v : α) {j : Nat} (h : j ≠ i) : xx_up f i k v j = f j := by
  funext q
  rw [xx_up_at, if_neg (fun z => h z.1)]
theorem xx_gs (χ : xx_S) (i k : Nat) (v : Int32) (j q : Nat) : xx_g (xx_s χ i k v) j q = if j = i ∧ q = k then v else xx_g χ j q := xx_up_at _ _ _ _ _ _
theorem xx_gsr (χ : xx_S) (i : Nat) (f : Nat → Int32) (j q : Nat) : xx_g (xx_sr χ i f) j q = if j = i then f q else xx_g χ j q := by
  unfold xx_g xx_sr
  by_cases h : j = i <;> simp [h]
theorem xx_grs (χ : xx_S) (i k : Nat) (v : Option Nat) (j q : Nat) : xx_g (xx_rs χ i k v) j q = xx_g χ j q := rfl
theorem xx_gps (χ : xx_S) (y : Nat) (e : va_E) (j q : Nat) : xx_g (xx_ps χ y e) j q = xx_g χ j q := rfl
theorem xx_gnw (χ : xx_S) (y : Nat) (e : va_E) (j q : Nat) : xx_g (xx_nw χ y e) j q = xx_g χ j q := rfl
theorem xx_rrs (χ : xx_S) (i k : Nat) (v : Option Nat) (j q : Nat) : xx_r (xx_rs χ i k v) j q = if j = i ∧ q = k then v else xx_r χ j q := xx_up_at _ _ _ _ _ _
theorem xx_rsI (χ : xx_S) (i k : Nat) (v : Int32) : xx_r (xx_s χ i k v) = xx_r χ := rfl
theorem xx_rsr (χ : xx_S) (i : Nat) (f : Nat → Int32) : xx_r (xx_sr χ i f) = xx_r χ := rfl
theorem xx_rps (χ : xx_S) (y : Nat) (e : va_E) : xx_r (xx_ps χ y e) = xx_r χ := rfl
theorem xx_rnw (χ : xx_S) (y : Nat) (e : va_E) : xx_r (xx_nw χ y e) = xx_r χ := rfl
theorem xx_fsI (χ : xx_S) (i k : Nat) (v : Int32) : xx_f (xx_s χ i k v) = xx_f χ := rfl
theorem xx_fsr (χ : xx_S) (i : Nat) (f : Nat → Int32) : xx_f (xx_sr χ i f) = xx_f χ := rfl
theorem xx_frs (χ : xx_S) (i k : Nat) (v : Option Nat) : xx_f (xx_rs χ i k v) = xx_f χ := rfl
theorem xx_fps (χ : xx_S) (y : Nat) (e : va_E) : xx_f (xx_ps χ y e) = va_up (xx_f χ) y e := rfl
theorem xx_fnw (χ : xx_S) (y : Nat) (e : va_E) : xx_f (xx_nw χ y e) = va_up (xx_f χ) y e := rfl
theorem xx_LsI (χ : xx_S) (i k : Nat) (v : Int32) : xx_L (xx_s χ i k v) = xx_L χ := rfl
theorem xx_Lsr (χ : xx_S) (i : Nat) (f : Nat → Int32) : xx_L (xx_sr χ i f) = xx_L χ := rfl
theorem xx_Lrs (χ : xx_S) (i k : Nat) (v : Option Nat) : xx_L (xx_rs χ i k v) = xx_L χ := rfl
theorem xx_Lps (χ : xx_S) (y : Nat) (e : va_E) : xx_L (xx_ps χ y e) = xx_L χ := rfl
theorem xx_Lnw (χ : xx_S) (y : Nat) (e : va_E) : xx_L (xx_nw χ y e) = xx_L χ ++ [y] := rfl
/-- fields that hold a cell of the class's own -/
def xx_ref : Nat → Option Nat := fun k => match k with
  | 0 => some 43
  | 3 => some 1
  | 4 => some 2
  | 5 => some 3
  | 6 => some 45
  | 12 => some 44
  | 14 => some 36
  | 15 => some 37
  | 16 => some 30
  | 25 => some 4
  | 27 => some 5
  | 28 => some 31
  | 29 => some 32
  | 30 => some 33
  | 31 => some 6
  | 36 => some 34
  | 37 => some 35
  | 38 => some 7
  | 39 => some 38
  | _ => none
def xx_len (i : Nat) : Nat := if i = 1 ∨ i = 2 then 4 else if i = 3 ∨ i = 4 then 24 else if i = 5 then 9 else if i = 6 then 6 else if i = 7 then 3 else if i < 14 then 5 else if i < 28 then 4 else if i < 30 then 5 else if i < 34 then 6 else 2
def xx_base (i : Nat) : Nat := if i = 31 then 8 else if i = 32 then 14 else if i = 33 then 20 else if i = 34 then 26 else 28
def xx_fv (ad : Nat → Nat) (χ : xx_S) (k : Nat) : Value := match xx_ref k with
  | some i => .ref (ad i)
  | none => .int (xx_g χ 0 k)
def xx_fl (ad : Nat → Nat) (χ : xx_S) : List Value := (List.range 40).map (xx_fv ad χ)
abbrev xx_q (n : Nat) (f : Nat → Option Nat) : vp_A := (n, .inr (.inr (.inr (.inr f))))
def xx_c (E : Nat → ClassId) (ad sk : Nat → Nat) (χ : xx_S) (i : Nat) : va_E :=
  if i = 0 then .inr (0, xx_fl ad χ)
  else if i < 30 then .inl (E 0, xx_len i, .inl (xx_g χ i))
  else if i = 30 then .inl (E 1, 160, .inl (xx_g χ 30))
  else if i < 36 then .inl (E 2, xx_q (xx_len i) (fun j => some (ad (xx_base i + j))))
  else if i < 38 then .inl (E 3, xx_q 6 (fun j => some (sk ((i - 36) * 6 + j))))
  else if i = 38 then .inl (E 4, xx_q 4 (fun j => some (ad (39 + j))))
  else if i < 43 then .inr (2, [va_rf (xx_r χ i 0)])
  else if i = 43 then .inl (E 5, xx_q 5 (xx_r χ 43))
  else if i = 44 then .inl (E 6, xx_q 6 (xx_r χ 44))
  else .inr (1, [])
/-- an array in the pool tells its class by its place among xx_tys -/
def xx_tr (E : Nat → ClassId) : va_E → va_E := fun e => match e with
  | .inl a => .inl (E a.1, a.2)
  | .inr o => .inr o
def xx_cs (E : Nat → ClassId) (ad sk : Nat → Nat) (χ : xx_S) : va_W := (List.range 46).map (fun i => (ad i, xx_c E ad sk χ i)) ++ va_pl (xx_L χ) (fun y => xx_tr E (xx_f χ y))
abbrev xx_cl : List vw_C := [(RX0, TX0, 40), (RX1, TX1, 0), (RX2, TX2, 1), (RX2, TX2, 1), (RX4, TX4, 2), (RX5, TX5, 1), (RX6, TX6, 2), (RX7, TX7, 3), (RX8, TX8, 47), (RX9, TX9, 2), (RX10, TX10, 2), (RX11, TX11, 2), (RX12, TX12, 2), (RX13, TX13, 2), (RX14, TX14, 2)]
abbrev xx_tys (E : Nat → ClassId) : List (ClassId × FieldType) := [(E 0, .int), (E 1, .byte), (E 2, .array .int), (E 3, .object "java/lang/String"), (E 4, .object RX2), (E 5, .object RX9), (E 6, .array (.object "GleanersForGaps$Node")), (E 7, .object "GleanersForGaps$Node"), (E 8, .short)]
def xx_W (D : va_G) (E : Nat → ClassId) (A : Nat → Prop) (ad sk : Nat → Nat) (χ : xx_S) (s : State) (H : Heap) : Prop :=
  va_P D xx_cl (xx_cs E ad sk χ) H ∧ va_D A (xx_cs E ad sk χ) ∧ va_K D xx_cl (xx_tys E) s ∧ xx_r χ 0 0 = some (ad 0)
theorem xx_mv (D : va_G) (E : Nat → ClassId) (A : Nat → Prop) (ad sk : Nat → Nat) : gg_Mv (fun χ s H => xx_W D E A ad sk χ s H) :=
  fun _ _ _ _ ha h => ⟨h.1, h.2.1, va_K.moved ha h.2.2.1, h.2.2.2⟩
/-- what the tables say beside the words of lw_all: nest mates, casts -/
def xx_N0 (U : State) : Prop :=
  (va_Nw (.fieldLinkNest RX0 499 RX2 "row" "Ljava/lang/Object;" RX0) U) ∧
  (va_Nw (.fieldLinkNest RX6 17 RX0 "forGap" "I" RX0) U ∧ va_Nw (.fieldLinkNest RX6 22 RX0 "forNth" "I" RX0) U ∧ va_Nw (.fieldLinkNest RX6 25 RX0 "forNumber" "I" RX0) U ∧ va_Nw (.fieldLinkNest RX6 28 RX0 "night" "I" RX0) U ∧ va_Nw (.fieldLinkNest RX6 31 RX0 "forApron" "I" RX0) U ∧ va_Nw (.fieldLinkNest RX6 34 RX0 "forRow" "I" RX0) U) ∧
  (va_Nw (.methodLinkNest RX4 1 yX3_init RX0) U ∧ va_Nw (.methodLinkNest RX5 1 yX3_init RX0) U ∧ va_Nw (.methodLinkNest RX6 7 yX3_init RX0) U ∧ va_Nw (.methodLinkNest RX7 1 yX3_init RX0) U) ∧
  (va_Nw (.castable RX10 RX9) U ∧ va_Nw (.castable RX11 RX9) U ∧ va_Nw (.castable RX12 RX9) U ∧ va_Nw (.castable RX13 RX9) U ∧ va_Nw (.castable RX14 RX9) U ∧ va_Nw (.castable RX12 RX10) U ∧ va_Nw (.castable RX13 RX11) U) ∧
  (va_Nw (.castable RX4 RX3) U ∧ va_Nw (.castable RX5 RX3) U ∧ va_Nw (.castable RX6 RX3) U ∧ va_Nw (.castable RX7 RX3) U) ∧
  va_Nw (.declares ⟨RX3, "worth", "()I"⟩) U ∧ va_AO RX3 U
theorem xx_N0_warm {s U : State} (hW : s.WarmedH U.vm) (h : xx_N0 s) : xx_N0 U := by
  obtain ⟨h1, ⟨a1, a2, a3, a4, a5, a6⟩, ⟨b1, b2, b3, b4⟩, ⟨c1, c2, c3, c4, c5, c6, c7⟩, ⟨d1, d2, d3, d4⟩, e1, f1⟩ := h
  exact ⟨h1.warmF hW, ⟨a1.warmF hW, a2.warmF hW, a3.warmF hW, a4.warmF hW, a5.warmF hW, a6.warmF hW⟩, ⟨b1.warmM hW, b2.warmM hW, b3.warmM hW, b4.warmM hW⟩, ⟨c1.warmC hW, c2.warmC hW, c3.warmC hW, c4.warmC hW, c5.warmC hW, c6.warmC hW, c7.warmC hW⟩, ⟨d1.warmC hW, d2.warmC hW, d3.warmC hW, d4.warmC hW⟩, e1.warmD hW, f1.moved hW.alike⟩
/-- pairs of classes that can't be cast, by name -/
def xx_ncs : List (String × String) := [("[B", "[S"), ("[B", "[I"), ("[S", "[B"), ("[S", "[I"), ("[I", "[B"), ("[I", "[S"), ("GleanersForGaps$Gleaner", "GleanersForGaps$Widow"), ("GleanersForGaps$Gleaner", "GleanersForGaps$Rich"), ("GleanersForGaps$Gleaner", "GleanersForGaps$Lark"), ("GleanersForGaps$Gleaner", "GleanersForGaps$Old"), ("GleanersForGaps$Gleaner", "GleanersForGaps$Child"), ("GleanersForGaps$Widow", "GleanersForGaps$Rich"), ("GleanersForGaps$Widow", "GleanersForGaps$Lark"), ("GleanersForGaps$Widow", "GleanersForGaps$Old"), ("GleanersForGaps$Widow", "GleanersForGaps$Child"), ("GleanersForGaps$Rich", "GleanersForGaps$Widow"), ("GleanersForGaps$Rich", "GleanersForGaps$Lark"), ("GleanersForGaps$Rich", "GleanersForGaps$Old"), ("GleanersForGaps$Rich", "GleanersForGaps$Child"), ("GleanersForGaps$Lark", "GleanersForGaps$Rich"), ("GleanersForGaps$Lark", "GleanersForGaps$Old"), ("GleanersForGaps$Lark", "GleanersForGaps$Child"), ("GleanersForGaps$Old", "GleanersForGaps$Widow"), ("GleanersForGaps$Old", "GleanersForGaps$Lark"), ("GleanersForGaps$Old", "GleanersForGaps$Child"), ("GleanersForGaps$Child", "GleanersForGaps$Widow"), ("GleanersForGaps$Child", "GleanersForGaps$Rich"), ("GleanersForGaps$Child", "GleanersForGaps$Lark"), ("GleanersForGaps$Child", "GleanersForGaps$Old"), ("java/lang/IndexOutOfBoundsException", "java/lang/NullPointerException"), ("java/lang/IndexOutOfBoundsException", "java/lang/ClassCastException"), ("java/lang/NullPointerException", "java/lang/ClassCastException"), ("java/lang/ClassCastException", "java/lang/NullPointerException")]
/-- casts and declared methods that the tables hold -/
def xx_NT (U : State) : Prop := (∀ C T : String, Cond.castable C T ∈ lw_tbl → va_Nw (.castable C T) U) ∧ ∀ x : MethodName, Cond.declares x ∈ lw_tbl → va_Nw (.declares x) U
def xx_N (U : State) : Prop := xx_N0 U ∧ (∀ q, q ∈ xx_ncs → va_Nc q.1 q.2 U) ∧ xx_NT U
theorem xx_N_warm {s U : State} (hW : s.WarmedH U.vm) (h : xx_N s) : xx_N U := ⟨xx_N0_warm hW h.1, fun q hq => (h.2.1 q hq).moved hW.alike, fun C T hC => (h.2.2.1 C T hC).warmC hW, fun x hx => (h.2.2.2 x hx).warmD hW⟩
/-- the texts in the class: how long, their letters -/
def xx_slen : List Nat := [5, 5, 6, 2, 3, 3, 3, 3, 6, 5, 5, 3, 8, 33]
def xx_sbyt : List (List Int32) := [[116, 97, 107, 101, 115], [107, 101, 101, 112, 115], [115, 104, 97, 107, 101, 115], [111, 114], [97, 110, 100], [110, 111, 116], [103, 97, 112], [110, 116, 104], [110, 117, 109, 98, 101, 114], [110, 105, 103, 104, 116], [97, 112, 114, 111, 110], [114, 111, 119], [40, 41, 59, 43, 45, 42, 60, 61], [116, 97, 107, 101, 115, 32, 103, 97, 112, 32, 59, 32, 107, 101, 101, 112, 115, 32, 53, 48, 32, 59, 32, 115, 104, 97, 107, 101, 115, 32, 48, 32, 59]]
/-- what stands in the heap from the start and is never written: two constants of the machine's throwing, the texts -/
def xx_Z (sk : Nat → Nat) (A : Nat → Prop) (U : State) (H : Heap) : Prop :=
  (vx_Zq Bundle.tN "UNASSIGNED_STACK" Bundle.steD A U H ∧ vx_Zq Bundle.tN "SUPPRESSED_SENTINEL" Bundle.listD A U H) ∧ ∃ adV : Nat → Nat, vk_S 14 xx_slen xx_sbyt sk adV A U H
theorem xx_Z.moved {sk : Nat → Nat} {A : Nat → Prop} {u U : State} {H : Heap} (hvm : u.vm.Alike U.vm) (h : xx_Z sk A u H) : xx_Z sk A U H := ⟨⟨h.1.1.moved hvm, h.1.2.moved hvm⟩, h.2.elim fun v hv => ⟨v, vk_S.moved hvm hv⟩⟩
theorem xx_Z.kept {sk : Nat → Nat} {A : Nat → Prop} {U : State} {H H1 : Heap} (h : xx_Z sk A U H) (hq : ∀ a : Nat, a < H.size → ¬ A a → H1[a]? = H[a]?) : xx_Z sk A U H1 := ⟨⟨h.1.1.kept hq, h.1.2.kept hq⟩, h.2.elim fun v hv => ⟨v, hv.kept hq⟩⟩
/-- what a method stands on beside its world -/
abbrev xx_A (sk : Nat → Nat) (A : Nat → Prop) (s : State) : Prop := xx_N s ∧ (∀ q : Nat, s.heap.size ≤ q → A q) ∧ xx_Z sk A s s.heap
/-- the same, and what is new is the method's own -/
def xx_V (D : va_G) (E : Nat → ClassId) (A : Nat → Prop) (ad sk : Nat → Nat) (χ : xx_S) (s : State) (H : Heap) : Prop := xx_W D E A ad sk χ s H ∧ xx_N s ∧ (∀ q : Nat, H.size ≤ q → A q) ∧ xx_Z sk A s H
theorem xx_mv0 (D : va_G) (E : Nat → ClassId) (A : Nat → Prop) (ad sk : Nat → Nat) (χ : xx_S) : gg_Mv0 (fun s H => xx_V D E A ad sk χ s H) := fun s U H hw h => ⟨xx_mv D E A ad sk χ s U H hw.alike h.1, xx_N_warm hw h.2.1, h.2.2.1, h.2.2.2.moved hw.alike⟩
theorem xx_fl_len (ad : Nat → Nat) (χ : xx_S) : (xx_fl ad χ).length = 40 := by simp [xx_fl]
theorem xx_fl_at (ad : Nat → Nat) (χ : xx_S) {k : Nat} (hk : k < 40) : (xx_fl ad χ)[k]? = some (xx_fv ad χ k) := by
  unfold xx_fl
  rw [List.getElem?_map, List.getElem?_range hk]
  rfl
theorem xx_cs_at (E : Nat → ClassId) (ad sk : Nat → Nat) (χ : xx_S) {i : Nat} (hi : i < 46) : (xx_cs E ad sk χ)[i]? = some (ad i, xx_c E ad sk χ i) := by
  unfold xx_cs
  rw [List.getElem?_append_left (by simp; omega), List.getElem?_map, List.getElem?_range hi]
  rfl
theorem xx_cs_set (E : Nat → ClassId) (ad sk : Nat → Nat) {χ χ' : xx_S} {i : Nat} {e : va_E} (hi : i < 46) (he : xx_c E ad sk χ' i = e) (ho : ∀ j, j < 46 → j ≠ i → xx_c E ad sk χ j = xx_c E ad sk χ' j) (hL : xx_L χ' = xx_L χ) (hf : xx_f χ' = xx_f χ) :
    (xx_cs E ad sk χ).set i (ad i, e) = xx_cs E ad sk χ' := by
  unfold xx_cs
  rw [List.set_append_left _ _ (by simp; omega), hL, hf]
  congr 1
  exact mm_set (by rw [he]) (fun j hj hji => by rw [ho j hj hji])
theorem xx_fl_s0 (ad : Nat → Nat) (χ : xx_S) (k : Nat) (v : Int32) (hr : xx_ref k = none) : (xx_fl ad χ).set k (.int v) = xx_fl ad (xx_s χ 0 k v) := by
  unfold xx_fl
  refine mm_set ?_ (fun i hi hik => ?_)
  · unfold xx_fv
    rw [hr]
    simp [xx_gs]
  · unfold xx_fv
    cases xx_ref i with
    | some x => rfl
    | none => simp [xx_gs, hik]
theorem xx_fl_row (ad : Nat → Nat) {χ χ' : xx_S} (h : ∀ k, xx_g χ' 0 k = xx_g χ 0 k) : xx_fl ad χ' = xx_fl ad χ := by
  unfold xx_fl
  refine mm_ext (fun q _ => ?_)
  unfold xx_fv
  cases xx_ref q with
  | some x => rfl
  | none => simp [h]
/-- a cell rests on its own row alone -/
theorem xx_c_eq (E : Nat → ClassId) (ad sk : Nat → Nat) {χ χ' : xx_S} {i : Nat} (hg : ∀ k, xx_g χ' i k = xx_g χ i k) (hr : ∀ k, xx_r χ' i k = xx_r χ i k) : xx_c E ad sk χ i = xx_c E ad sk χ' i := by
  have hg' : xx_g χ' i = xx_g χ i := funext hg
  have hr' : xx_r χ' i = xx_r χ i := funext hr
  unfold xx_c
  by_cases h0 : i = 0
  · subst h0
    rw [if_pos rfl, if_pos rfl, xx_fl_row ad hg]
  rw [if_neg h0, if_neg h0, hg']
  by_cases h1 : i < 30
  · rw [if_pos h1, if_pos h1]
  rw [if_neg h1, if_neg h1]
  by_cases h2 : i = 30
  · subst h2
    rw [if_pos rfl, if_pos rfl, hg']
  rw [if_neg h2, if_neg h2]
  by_cases h3 : i < 36
  · rw [if_pos h3, if_pos h3]
  rw [if_neg h3, if_neg h3]
  by_cases h4 : i < 38
  · rw [if_pos h4, if_pos h4]
  rw [if_neg h4, if_neg h4]
  by_cases h5 : i = 38
  · rw [if_pos h5, if_pos h5]
  rw [if_neg h5, if_neg h5]
  by_cases h6 : i < 43
  · rw [if_pos h6, if_pos h6, hr']
  rw [if_neg h6, if_neg h6]
  by_cases h7 : i = 43
  · subst h7
    rw [if_pos rfl, if_pos rfl, hr']
  rw [if_neg h7, if_neg h7]
  by_cases h8 : i = 44
  · subst h8
    rw [if_pos rfl, if_pos rfl, hr']
  rw [if_neg h8, if_neg h8]
theorem xx_c_int (E : Nat → ClassId) (ad sk : Nat → Nat) (χ : xx_S) {i : Nat} (h1 : 1 ≤ i) (h2 : i < 30) : xx_c E ad sk χ i = .inl (E 0, xx_len i, .inl (xx_g χ i)) := by
  unfold xx_c
  rw [if_neg (by omega), if_pos h2]
theorem xx_c_out (E : Nat → ClassId) (ad sk : Nat → Nat) (χ : xx_S) {i : Nat} (h1 : 31 ≤ i) (h2 : i < 36) : xx_c E ad sk χ i = .inl (E 2, xx_q (xx_len i) (fun j => some (ad (xx_base i + j)))) := by
  unfold xx_c
  rw [if_neg (by omega), if_neg (by omega), if_neg (by omega), if_pos h2]
theorem xx_c_sh (E : Nat → ClassId) (ad sk : Nat → Nat) (χ : xx_S) {i : Nat} (h1 : 39 ≤ i) (h2 : i < 43) : xx_c E ad sk χ i = .inr (2, [va_rf (xx_r χ i 0)]) := by
  unfold xx_c
  rw [if_neg (by omega), if_neg (by omega), if_neg (by omega), if_neg (by omega), if_neg (by omega), if_neg (by omega), if_pos h2]
