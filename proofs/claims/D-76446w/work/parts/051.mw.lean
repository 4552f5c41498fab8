theorem cd_X8_opens : yX8_opens.cls = RX8 ∧ yX8_opens.cls ≠ "java/lang/invoke/MethodHandle" ∧ yX8_opens.cls ≠ "java/lang/invoke/VarHandle" ∧ (parseMethodDescriptor yX8_opens.desc).map (fun d => d.parameters.length) = some 0 := by decide +kernel
/-! GleanersForGapsModel.opens()Z -/
def mmw_opens   (σ : gg_S) (Q : Int32 → gg_S → Prop) : Prop :=
    ((((gg_g σ 0 25) = (5 : Int32)) → (mmw_fail σ (fun σ3 => Q (0 : Int32) σ3))) ∧ (¬ ((gg_g σ 0 25) = (5 : Int32)) → (∀ σ1 : gg_S, σ1 = gg_s σ 0 25 ((gg_g σ 0 25) + (1 : Int32)) → (mmw_next σ1 (fun σ2 => Q (1 : Int32) σ2)))))
abbrev mmr_opens : Room := { frames := 2, cells := 0, slots := 0, locals := 47 }
set_option maxHeartbeats 4000000 in
set_option maxRecDepth 100000 in
theorem mmt_opens (l : Launch) {D : va_G} {cl : List vw_C} {E : ClassId × ClassId} {A : Nat → Prop} {ad : Nat → Nat}   (σ : gg_S) {Q : Int32 → gg_S → Prop} (hw : mmw_opens σ Q) :
    Met l yX8_opens (ws_ yX8_opens cX8_opens 1 (some .boolean)) mmr_opens (va_Pc [.ref (ad 0)] (fun U => mm_W D cl E A ad σ U U.heap)) (va_Qi (fun r u => (r = 0 ∨ r = 1) ∧ Q r u) (fun u t => mm_W D cl E A ad u t t.heap) A) 0 0 A := by
  refine gg_entry (W0 := fun s H => mm_W D cl E A ad σ s H) (by decide) (Nat.le_of_ble_eq_true rfl) ?_
  intro p e s m args below meth c C0 hW ls hl
  have C0 : gg_C p s m args meth c RX8 cX8_opens 1 (some .boolean) := C0
  obtain ⟨hx, hb, hml, hown, hts, hr, hlocks⟩ := id C0
  have hl : lv_has ls 1 [(0, .ref (ad 0))] := hl
  have hS : va_S A s.heap s.heap [] := va_S.rf
  unfold mmw_opens at hw
  refine lv_aload_n hx hb dX8_opens_0 rfl (lv_at hl 0 rfl) ?_
  refine mm_geti hx hb hts hown hW 25 (by decide) q1296 dX8_opens_1 ?_
  refine lv_iconst (v := (5 : Int32)) hx hb dX8_opens_4 (by decide) ?_
  refine lv_icmp_ne (tgt := 14) hx hb dX8_opens_5 (by decide) (fun c4 => ?_) (fun c4 => ?_)
  · have hw := hw.2 c4
    refine lv_aload_n hx hb dX8_opens_14 rfl (lv_at hl 0 rfl) ?_
    refine lv_dup hx hb dX8_opens_15 rfl ?_
    refine mm_geti hx hb hts hown hW 25 (by decide) q1296 dX8_opens_16 ?_
    refine lv_iconst (v := (1 : Int32)) hx hb dX8_opens_19 (by decide) ?_
    refine lv_iadd hx hb dX8_opens_20 ?_
    refine mm_puti hx hb hts hown hW hS 25 (by decide) q1296 rfl rfl rfl dX8_opens_21 (fun H locs hW hS => ?_)
    obtain ⟨σ1, eσ1⟩ : ∃ z, z = gg_s σ 0 25 ((gg_g σ 0 25) + (1 : Int32)) := ⟨_, rfl⟩
    rw [← eσ1] at hW
    have hw := hw σ1 eσ1
    refine lv_aload_n hx hb dX8_opens_24 rfl (lv_at hl 0 rfl) ?_
    refine mm_VV ⟨hx, hb, hml, hown, hts⟩ (mmt_next l _ hw) (cwV 0 hts (lw_V q1462 q1464 qs65 q120 q1465) rfl rfl rfl cd_X8_next ⟨Nat.le_of_ble_eq_true rfl, Nat.le_of_ble_eq_true rfl⟩) hW (mm_recv hW) hS rfl hl.1 rfl (Nat.le_of_ble_eq_true rfl) dX8_opens_25 (fun σ2 H locs hw hW hS => ?_)
    refine lv_iconst (v := (1 : Int32)) hx hb dX8_opens_28 (by decide) ?_
    exact gg_zret (mm_mv D cl E A ad) C0 hW hS (Or.inr rfl) hw dX8_opens_29
  · have hw := hw.1 c4
    refine lv_aload_n hx hb dX8_opens_8 rfl (lv_at hl 0 rfl) ?_
    refine mm_VV ⟨hx, hb, hml, hown, hts⟩ (mmt_fail l _ hw) (cwV 0 hts (lw_V q1486 q1488 qs70 q120 q1489) rfl rfl rfl cd_X8_fail ⟨Nat.le_of_ble_eq_true rfl, Nat.le_of_ble_eq_true rfl⟩) hW (mm_recv hW) hS rfl hl.1 rfl (Nat.le_of_ble_eq_true rfl) dX8_opens_9 (fun σ3 H locs hw hW hS => ?_)
    refine lv_iconst (v := (0 : Int32)) hx hb dX8_opens_12 (by decide) ?_
    exact gg_zret (mm_mv D cl E A ad) C0 hW hS (Or.inl rfl) hw dX8_opens_13
def mmr_g_parse (d : Nat) : Room := { frames := 4 + d, cells := 0, slots := 0, locals := 91 + 23 * d }
theorem cd_X8_either : yX8_either.cls = RX8 ∧ yX8_either.cls ≠ "java/lang/invoke/MethodHandle" ∧ yX8_either.cls ≠ "java/lang/invoke/VarHandle" ∧ (parseMethodDescriptor yX8_either.desc).map (fun d => d.parameters.length) = some 0 := by decide +kernel
theorem cd_X8_both : yX8_both.cls = RX8 ∧ yX8_both.cls ≠ "java/lang/invoke/MethodHandle" ∧ yX8_both.cls ≠ "java/lang/invoke/VarHandle" ∧ (parseMethodDescriptor yX8_both.desc).map (fun d => d.parameters.length) = some 0 := by decide +kernel
theorem cd_X8_not : yX8_not.cls = RX8 ∧ yX8_not.cls ≠ "java/lang/invoke/MethodHandle" ∧ yX8_not.cls ≠ "java/lang/invoke/VarHandle" ∧ (parseMethodDescriptor yX8_not.desc).map (fun d => d.parameters.length) = some 0 := by decide +kernel
theorem cd_X8_added : yX8_added.cls = RX8 ∧ yX8_added.cls ≠ "java/lang/invoke/MethodHandle" ∧ yX8_added.cls ≠ "java/lang/invoke/VarHandle" ∧ (parseMethodDescriptor yX8_added.desc).map (fun d => d.parameters.length) = some 0 := by decide +kernel
theorem cd_X8_term : yX8_term.cls = RX8 ∧ yX8_term.cls ≠ "java/lang/invoke/MethodHandle" ∧ yX8_term.cls ≠ "java/lang/invoke/VarHandle" ∧ (parseMethodDescriptor yX8_term.desc).map (fun d => d.parameters.length) = some 0 := by decide +kernel
theorem cd_X8_atom : yX8_atom.cls = RX8 ∧ yX8_atom.cls ≠ "java/lang/invoke/MethodHandle" ∧ yX8_atom.cls ≠ "java/lang/invoke/VarHandle" ∧ (parseMethodDescriptor yX8_atom.desc).map (fun d => d.parameters.length) = some 0 := by decide +kernel
/-! GleanersForGapsModel.either()I -/
def mmw_either_44 (G : Nat → gg_S → (Int32 → gg_S → Prop) → Prop) (Q : Int32 → gg_S → Prop) (K5 : Int32 → gg_S → Prop) (s0 : Int32) (σ : gg_S) : Prop :=
    K5 s0 σ
def mmw_either_39 (G : Nat → gg_S → (Int32 → gg_S → Prop) → Prop) (Q : Int32 → gg_S → Prop) (K5 : Int32 → gg_S → Prop)  (σ : gg_S) : Prop :=
    mmw_either_44 G Q K5 (1 : Int32) σ
def mmw_either_5 (G : Nat → gg_S → (Int32 → gg_S → Prop) → Prop) (Q : Int32 → gg_S → Prop)  : Nat → Int32 → gg_S → Prop
  | 0, _, _ => False
  | n + 1, x1, σ =>
    (mmw_isWord (111 : Int32) (114 : Int32) (0 : Int32) (0 : Int32) (0 : Int32) (0 : Int32) (0 : Int32) (0 : Int32) σ (fun r4 σ3 => (((r4 = 0) → Q x1 σ3) ∧ (¬ (r4 = 0) → (mmw_next σ3 (fun σ5 => (G 1 σ5 (fun r7 σ6 => (((x1 = 0) → (((r7 = 0) → mmw_either_44 G Q (fun y0 τ => mmw_either_5 G Q n y0 τ) (0 : Int32) σ6) ∧ (¬ (r7 = 0) → mmw_either_39 G Q (fun y0 τ => mmw_either_5 G Q n y0 τ) σ6))) ∧ (¬ (x1 = 0) → mmw_either_39 G Q (fun y0 τ => mmw_either_5 G Q n y0 τ) σ6))))))))))
def mmw_either (G : Nat → gg_S → (Int32 → gg_S → Prop) → Prop)  (σ : gg_S) (Q : Int32 → gg_S → Prop) : Prop :=
    (G 1 σ (fun r2 σ1 => ∃ k9, mmw_either_5 G Q k9 r2 σ1))
set_option maxHeartbeats 4000000 in
set_option maxRecDepth 100000 in
theorem mmk_either_44 {p : Program} {l : Launch} {e : Env} {s : State} {m : MethodId} {args : Array Value} {below : List Frame} {meth : Method} {c : Code} {d : Nat} {G : Nat → gg_S → (Int32 → gg_S → Prop) → Prop} {D : va_G} {cl : List vw_C} {E : ClassId × ClassId} {A : Nat → Prop} {ad : Nat → Nat} {Q : Int32 → gg_S → Prop} {K5 : Int32 → gg_S → Prop} (hG_either : ∀  (σ : gg_S) (Q : Int32 → gg_S → Prop), G 0 σ Q → Met l yX8_either (ws_ yX8_either cX8_either 3 (some .int)) (mmr_g_parse d) (va_Pc [.ref (ad 0)] (fun U => mm_W D cl E A ad σ U U.heap)) (va_Qi Q (fun u t => mm_W D cl E A ad u t t.heap) A) 0 0 A) (hG_both : ∀  (σ : gg_S) (Q : Int32 → gg_S → Prop), G 1 σ Q → Met l yX8_both (ws_ yX8_both cX8_both 3 (some .int)) (mmr_g_parse d) (va_Pc [.ref (ad 0)] (fun U => mm_W D cl E A ad σ U U.heap)) (va_Qi Q (fun u t => mm_W D cl E A ad u t t.heap) A) 0 0 A) (hG_not : ∀  (σ : gg_S) (Q : Int32 → gg_S → Prop), G 2 σ Q → Met l yX8_not (ws_ yX8_not cX8_not 4 (some .int)) (mmr_g_parse d) (va_Pc [.ref (ad 0)] (fun U => mm_W D cl E A ad σ U U.heap)) (va_Qi Q (fun u t => mm_W D cl E A ad u t t.heap) A) 0 0 A) (hG_added : ∀  (σ : gg_S) (Q : Int32 → gg_S → Prop), G 3 σ Q → Met l yX8_added (ws_ yX8_added cX8_added 4 (some .int)) (mmr_g_parse d) (va_Pc [.ref (ad 0)] (fun U => mm_W D cl E A ad σ U U.heap)) (va_Qi Q (fun u t => mm_W D cl E A ad u t t.heap) A) 0 0 A) (hG_term : ∀  (σ : gg_S) (Q : Int32 → gg_S → Prop), G 4 σ Q → Met l yX8_term (ws_ yX8_term cX8_term 2 (some .int)) (mmr_g_parse d) (va_Pc [.ref (ad 0)] (fun U => mm_W D cl E A ad σ U U.heap)) (va_Qi Q (fun u t => mm_W D cl E A ad u t t.heap) A) 0 0 A) (hG_atom : ∀  (σ : gg_S) (Q : Int32 → gg_S → Prop), G 5 σ Q → Met l yX8_atom (ws_ yX8_atom cX8_atom 2 (some .int)) (mmr_g_parse d) (va_Pc [.ref (ad 0)] (fun U => mm_W D cl E A ad σ U U.heap)) (va_Qi Q (fun u t => mm_W D cl E A ad u t t.heap) A) 0 0 A) (C0 : gg_C p s m args meth c RX8 cX8_either 3 (some .int)) (hK5 : ∀ (x1 : Int32) (σ : gg_S) (H : Heap) (locs : List Loc) (ls : Array Slot), K5 x1 σ → mm_W D cl E A ad σ s H → va_S A s.heap H locs → lv_has ls 3 [(0, .ref (ad 0)), (1, .int x1)] → W p l e (mmr_g_parse (d + 1)) s m args below meth c H locs 0 0 (MQ below (va_Qi Q (fun u t => mm_W D cl E A ad u t t.heap) A) args s 0 0 A) (F0 m 5 ls [])) :
    ∀ (s0 : Int32) (σ : gg_S) (H : Heap) (locs : List Loc) (ls : Array Slot), mmw_either_44 G Q K5 s0 σ → mm_W D cl E A ad σ s H → va_S A s.heap H locs → lv_has ls 3 [(0, .ref (ad 0))] → W p l e (mmr_g_parse (d + 1)) s m args below meth c H locs 0 0 (MQ below (va_Qi Q (fun u t => mm_W D cl E A ad u t t.heap) A) args s 0 0 A) (F0 m 44 ls [.int s0]) := by
  obtain ⟨hx, hb, hml, hown, hts, hr, hlocks⟩ := id C0
  intro s0 σ H locs ls hw hW hS hl
  unfold mmw_either_44 at hw
  refine lv_istore_n (lv' := [(1, .int s0), (0, .ref (ad 0))]) hx hb dX8_either_44 rfl hl (by decide) rfl (fun ls hl => ?_)
  refine lv_goto (tgt := 5) hx hb dX8_either_45 (by decide) ?_
  exact hK5 s0 σ _ _ _ hw hW hS (lv_sub hl [1, 0] rfl)
set_option maxHeartbeats 4000000 in
set_option maxRecDepth 100000 in
theorem mmk_either_39 {p : Program} {l : Launch} {e : Env} {s : State} {m : MethodId} {args : Array Value} {below : List Frame} {meth : Method} {c : Code} {d : Nat} {G : Nat → gg_S → (Int32 → gg_S → Prop) → Prop} {D : va_G} {cl : List vw_C} {E : ClassId × ClassId} {A : Nat → Prop} {ad : Nat → Nat} {Q : Int32 → gg_S → Prop} {K5 : Int32 → gg_S → Prop} (hG_either : ∀  (σ : gg_S) (Q : Int32 → gg_S → Prop), G 0 σ Q → Met l yX8_either (ws_ yX8_either cX8_either 3 (some .int)) (mmr_g_parse d) (va_Pc [.ref (ad 0)] (fun U => mm_W D cl E A ad σ U U.heap)) (va_Qi Q (fun u t => mm_W D cl E A ad u t t.heap) A) 0 0 A) (hG_both : ∀  (σ : gg_S) (Q : Int32 → gg_S → Prop), G 1 σ Q → Met l yX8_both (ws_ yX8_both cX8_both 3 (some .int)) (mmr_g_parse d) (va_Pc [.ref (ad 0)] (fun U => mm_W D cl E A ad σ U U.heap)) (va_Qi Q (fun u t => mm_W D cl E A ad u t t.heap) A) 0 0 A) (hG_not : ∀  (σ : gg_S) (Q : Int32 → gg_S → Prop), G 2 σ Q → Met l yX8_not (ws_ yX8_not cX8_not 4 (some .int)) (mmr_g_parse d) (va_Pc [.ref (ad 0)] (fun U => mm_W D cl E A ad σ U U.heap)) (va_Qi Q (fun u t => mm_W D cl E A ad u t t.heap) A) 0 0 A) (hG_added : ∀  (σ : gg_S) (Q : Int32 → gg_S → Prop), G 3 σ Q → Met l yX8_added (ws_ yX8_added cX8_added 4 (some .int)) (mmr_g_parse d) (va_Pc [.ref (ad 0)] (fun U => mm_W D cl E A ad σ U U.heap)) (va_Qi Q (fun u t => mm_W D cl E A ad u t t.heap) A) 0 0 A) (hG_term : ∀  (σ : gg_S) (Q : Int32 → gg_S → Prop), G 4 σ Q → Met l yX8_term (ws_ yX8_term cX8_term 2 (some .int)) (mmr_g_parse d) (va_Pc [.ref (ad 0)] (fun U => mm_W D cl E A ad σ U U.heap)) (va_Qi Q (fun u t => mm_W D cl E A ad u t t.heap) A) 0 0 A) (hG_atom : ∀  (σ : gg_S) (Q : Int32 → gg_S → Prop), G 5 σ Q → Met l yX8_atom (ws_ yX8_atom cX8_atom 2 (some .int)) (mmr_g_parse d) (va_Pc [.ref (ad 0)] (fun U => mm_W D cl E A ad σ U U.heap)) (va_Qi Q (fun u t => mm_W D cl E A ad u t t.heap) A) 0 0 A) (C0 : gg_C p s m args meth c RX8 cX8_either 3 (some .int)) (hK5 : ∀ (x1 : Int32) (σ : gg_S) (H : Heap) (locs : List Loc) (ls : Array Slot), K5 x1 σ → mm_W D cl E A ad σ s H → va_S A s.heap H locs → lv_has ls 3 [(0, .ref (ad 0)), (1, .int x1)] → W p l e (mmr_g_parse (d + 1)) s m args below meth c H locs 0 0 (MQ below (va_Qi Q (fun u t => mm_W D cl E A ad u t t.heap) A) args s 0 0 A) (F0 m 5 ls [])) :
    ∀  (σ : gg_S) (H : Heap) (locs : List Loc) (ls : Array Slot), mmw_either_39 G Q K5 σ → mm_W D cl E A ad σ s H → va_S A s.heap H locs → lv_has ls 3 [(0, .ref (ad 0))] → W p l e (mmr_g_parse (d + 1)) s m args below meth c H locs 0 0 (MQ below (va_Qi Q (fun u t => mm_W D cl E A ad u t t.heap) A) args s 0 0 A) (F0 m 39 ls []) := by
  obtain ⟨hx, hb, hml, hown, hts, hr, hlocks⟩ := id C0
  intro σ H locs ls hw hW hS hl
  unfold mmw_either_39 at hw
  refine lv_iconst (v := (1 : Int32)) hx hb dX8_either_39 (by decide) ?_
  refine lv_goto (tgt := 44) hx hb dX8_either_40 (by decide) ?_
  exact mmk_either_44 hG_either hG_both hG_not hG_added hG_term hG_atom C0  hK5 (1 : Int32) σ _ _ _ hw hW hS (hl)
set_option maxHeartbeats 4000000 in
set_option maxRecDepth 100000 in
theorem mmk_either_5 {p : Program} {l : Launch} {e : Env} {s : State} {m : MethodId} {args : Array Value} {below : List Frame} {meth : Method} {c : Code} {d : Nat} {G : Nat → gg_S → (Int32 → gg_S → Prop) → Prop} {D : va_G} {cl : List vw_C} {E : ClassId × ClassId} {A : Nat → Prop} {ad : Nat → Nat} {Q : Int32 → gg_S → Prop}  (hG_either : ∀  (σ : gg_S) (Q : Int32 → gg_S → Prop), G 0 σ Q → Met l yX8_either (ws_ yX8_either cX8_either 3 (some .int)) (mmr_g_parse d) (va_Pc [.ref (ad 0)] (fun U => mm_W D cl E A ad σ U U.heap)) (va_Qi Q (fun u t => mm_W D cl E A ad u t t.heap) A) 0 0 A) (hG_both : ∀  (σ : gg_S) (Q : Int32 → gg_S → Prop), G 1 σ Q → Met l yX8_both (ws_ yX8_both cX8_both 3 (some .int)) (mmr_g_parse d) (va_Pc [.ref (ad 0)] (fun U => mm_W D cl E A ad σ U U.heap)) (va_Qi Q (fun u t => mm_W D cl E A ad u t t.heap) A) 0 0 A) (hG_not : ∀  (σ : gg_S) (Q : Int32 → gg_S → Prop), G 2 σ Q → Met l yX8_not (ws_ yX8_not cX8_not 4 (some .int)) (mmr_g_parse d) (va_Pc [.ref (ad 0)] (fun U => mm_W D cl E A ad σ U U.heap)) (va_Qi Q (fun u t => mm_W D cl E A ad u t t.heap) A) 0 0 A) (hG_added : ∀  (σ : gg_S) (Q : Int32 → gg_S → Prop), G 3 σ Q → Met l yX8_added (ws_ yX8_added cX8_added 4 (some .int)) (mmr_g_parse d) (va_Pc [.ref (ad 0)] (fun U => mm_W D cl E A ad σ U U.heap)) (va_Qi Q (fun u t => mm_W D cl E A ad u t t.heap) A) 0 0 A) (hG_term : ∀  (σ : gg_S) (Q : Int32 → gg_S → Prop), G 4 σ Q → Met l yX8_term (ws_ yX8_term cX8_term 2 (some .int)) (mmr_g_parse d) (va_Pc [.ref (ad 0)] (fun U => mm_W D cl E A ad σ U U.heap)) (va_Qi Q (fun u t => mm_W D cl E A ad u t t.heap) A) 0 0 A) (hG_atom : ∀  (σ : gg_S) (Q : Int32 → gg_S → Prop), G 5 σ Q → Met l yX8_atom (ws_ yX8_atom cX8_atom 2 (some .int)) (mmr_g_parse d) (va_Pc [.ref (ad 0)] (fun U => mm_W D cl E A ad σ U U.heap)) (va_Qi Q (fun u t => mm_W D cl E A ad u t t.heap) A) 0 0 A) (C0 : gg_C p s m args meth c RX8 cX8_either 3 (some .int))  :
    ∀ n : Nat, ∀ (x1 : Int32) (σ : gg_S) (H : Heap) (locs : List Loc) (ls : Array Slot), mmw_either_5 G Q n x1 σ → mm_W D cl E A ad σ s H → va_S A s.heap H locs → lv_has ls 3 [(0, .ref (ad 0)), (1, .int x1)] → W p l e (mmr_g_parse (d + 1)) s m args below meth c H locs 0 0 (MQ below (va_Qi Q (fun u t => mm_W D cl E A ad u t t.heap) A) args s 0 0 A) (F0 m 5 ls []) := by
  obtain ⟨hx, hb, hml, hown, hts, hr, hlocks⟩ := id C0
  intro n
  induction n with
  | zero =>
    intro x1 σ H locs ls hw hW hS hl
    exact absurd hw (by unfold mmw_either_5; exact id)
  | succ n ih =>
    intro x1 σ H locs ls hw hW hS hl
    unfold mmw_either_5 at hw
    refine lv_aload_n hx hb dX8_either_5 rfl (lv_at hl 0 rfl) ?_
    refine lv_bipush (v := (111 : Int32)) hx hb dX8_either_6 (by decide) ?_
    refine lv_bipush (v := (114 : Int32)) hx hb dX8_either_8 (by decide) ?_
    refine lv_iconst (v := (0 : Int32)) hx hb dX8_either_10 (by decide) ?_
    refine lv_iconst (v := (0 : Int32)) hx hb dX8_either_11 (by decide) ?_
    refine lv_iconst (v := (0 : Int32)) hx hb dX8_either_12 (by decide) ?_
    refine lv_iconst (v := (0 : Int32)) hx hb dX8_either_13 (by decide) ?_
    refine lv_iconst (v := (0 : Int32)) hx hb dX8_either_14 (by decide) ?_
    refine lv_iconst (v := (0 : Int32)) hx hb dX8_either_15 (by decide) ?_
    refine mm_VI ⟨hx, hb, hml, hown, hts⟩ (mmt_isWord l _ _ _ _ _ _ _ _ _ hw) (cwV 8 hts (lw_V q1474 q1476 qs67 q120 q1477) rfl rfl rfl cd_X8_isWord ⟨by simp only [mmr_g_parse, mmr_isWord]; omega, by simp only [mmr_g_parse, mmr_isWord]; omega⟩) hW (mm_recv hW) hS rfl hl.1 rfl (Nat.le_of_ble_eq_true rfl) dX8_either_16 (fun r4 σ3 H locs hw hW hS => ?_)
    obtain ⟨hz_r4, hw⟩ := hw
    refine lv_if_eq (tgt := 48) hx hb dX8_either_19 (by decide) (fun c10 => ?_) (fun c10 => ?_)
    · have hw := hw.1 c10
      refine lv_iload_n hx hb dX8_either_48 rfl (lv_at hl 1 rfl) ?_
      exact gg_iret (mm_mv D cl E A ad) C0 hW hS hw dX8_either_49
    · have hw := hw.2 c10
      refine lv_aload_n hx hb dX8_either_22 rfl (lv_at hl 0 rfl) ?_
      refine mm_VV ⟨hx, hb, hml, hown, hts⟩ (mmt_next l _ hw) (cwV 0 hts (lw_V q1462 q1464 qs65 q120 q1465) rfl rfl rfl cd_X8_next ⟨by simp only [mmr_g_parse, mmr_next]; omega, by simp only [mmr_g_parse, mmr_next]; omega⟩) hW (mm_recv hW) hS rfl hl.1 rfl (Nat.le_of_ble_eq_true rfl) dX8_either_23 (fun σ5 H locs hw hW hS => ?_)
      refine lv_aload_n hx hb dX8_either_26 rfl (lv_at hl 0 rfl) ?_
      refine mm_VI ⟨hx, hb, hml, hown, hts⟩ (hG_both _ _ hw) (cwV 0 hts (lw_V q1494 q1496 qs72 q120 q1497) rfl rfl rfl cd_X8_both ⟨by simp only [mmr_g_parse]; omega, by simp only [mmr_g_parse]; omega⟩) hW (mm_recv hW) hS rfl hl.1 rfl (Nat.le_of_ble_eq_true rfl) dX8_either_27 (fun r7 σ6 H locs hw hW hS => ?_)
      refine lv_istore_n (lv' := [(2, .int r7), (0, .ref (ad 0)), (1, .int x1)]) hx hb dX8_either_30 rfl hl (by decide) rfl (fun ls hl => ?_)
      refine lv_iload_n hx hb dX8_either_31 rfl (lv_at hl 2 rfl) ?_
      refine lv_if_ne (tgt := 39) hx hb dX8_either_32 (by decide) (fun c9 => ?_) (fun c9 => ?_)
      · have hw := hw.2 c9
        exact mmk_either_39 hG_either hG_both hG_not hG_added hG_term hG_atom C0  (fun y0 τ H9 l9 s9 => ih y0 τ H9 l9 s9) σ6 _ _ _ hw hW hS (lv_sub hl [1] rfl)
      · have hw := hw.1 c9
        refine lv_iload_n hx hb dX8_either_35 rfl (lv_at hl 0 rfl) ?_
        refine lv_if_eq (tgt := 43) hx hb dX8_either_36 (by decide) (fun c8 => ?_) (fun c8 => ?_)
        · have hw := hw.1 c8
          refine lv_iconst (v := (0 : Int32)) hx hb dX8_either_43 (by decide) ?_
          exact mmk_either_44 hG_either hG_both hG_not hG_added hG_term hG_atom C0  (fun y0 τ H9 l9 s9 => ih y0 τ H9 l9 s9) (0 : Int32) σ6 _ _ _ hw hW hS (lv_sub hl [1] rfl)
        · have hw := hw.2 c8
          exact mmk_either_39 hG_either hG_both hG_not hG_added hG_term hG_atom C0  (fun y0 τ H9 l9 s9 => ih y0 τ H9 l9 s9) σ6 _ _ _ hw hW hS (lv_sub hl [1] rfl)
set_option maxHeartbeats 4000000 in
set_option maxRecDepth 100000 in
theorem mmt_either (l : Launch) {d : Nat} {G : Nat → gg_S → (Int32 → gg_S → Prop) → Prop} {D : va_G} {cl : List vw_C} {E : ClassId × ClassId} {A : Nat → Prop} {ad : Nat → Nat} (hG_either : ∀  (σ : gg_S) (Q : Int32 → gg_S → Prop), G 0 σ Q → Met l yX8_either (ws_ yX8_either cX8_either 3 (some .int)) (mmr_g_parse d) (va_Pc [.ref (ad 0)] (fun U => mm_W D cl E A ad σ U U.heap)) (va_Qi Q (fun u t => mm_W D cl E A ad u t t.heap) A) 0 0 A) (hG_both : ∀  (σ : gg_S) (Q : Int32 → gg_S → Prop), G 1 σ Q → Met l yX8_both (ws_ yX8_both cX8_both 3 (some .int)) (mmr_g_parse d) (va_Pc [.ref (ad 0)] (fun U => mm_W D cl E A ad σ U U.heap)) (va_Qi Q (fun u t => mm_W D cl E A ad u t t.heap) A) 0 0 A) (hG_not : ∀  (σ : gg_S) (Q : Int32 → gg_S → Prop), G 2 σ Q → Met l yX8_not (ws_ yX8_not cX8_not 4 (some .int)) (mmr_g_parse d) (va_Pc [.ref (ad 0)] (fun U => mm_W D cl E A ad σ U U.heap)) (va_Qi Q (fun u t => mm_W D cl E A ad u t t.heap) A) 0 0 A) (hG_added : ∀  (σ : gg_S) (Q : Int32 → gg_S → Prop), G 3 σ Q → Met l yX8_added (ws_ yX8_added cX8_added 4 (some .int)) (mmr_g_parse d) (va_Pc [.ref (ad 0)] (fun U => mm_W D cl E A ad σ U U.heap)) (va_Qi Q (fun u t => mm_W D cl E A ad u t t.heap) A) 0 0 A) (hG_term : ∀  (σ : gg_S) (Q : Int32 → gg_S → Prop), G 4 σ Q → Met l yX8_term (ws_ yX8_term cX8_term 2 (some .int)) (mmr_g_parse d) (va_Pc [.ref (ad 0)] (fun U => mm_W D cl E A ad σ U U.heap)) (va_Qi Q (fun u t => mm_W D cl E A ad u t t.heap) A) 0 0 A) (hG_atom : ∀  (σ : gg_S) (Q : Int32 → gg_S → Prop), G 5 σ Q → Met l yX8_atom (ws_ yX8_atom cX8_atom 2 (some .int)) (mmr_g_parse d) (va_Pc [.ref (ad 0)] (fun U => mm_W D cl E A ad σ U U.heap)) (va_Qi Q (fun u t => mm_W D cl E A ad u t t.heap) A) 0 0 A)  (σ : gg_S) {Q : Int32 → gg_S → Prop} (hw : mmw_either G σ Q) :
    Met l yX8_either (ws_ yX8_either cX8_either 3 (some .int)) (mmr_g_parse (d + 1)) (va_Pc [.ref (ad 0)] (fun U => mm_W D cl E A ad σ U U.heap)) (va_Qi Q (fun u t => mm_W D cl E A ad u t t.heap) A) 0 0 A := by
  refine gg_entry (W0 := fun s H => mm_W D cl E A ad σ s H) (by decide) (Nat.le_of_ble_eq_true rfl) ?_
  intro p e s m args below meth c C0 hW ls hl
  have C0 : gg_C p s m args meth c RX8 cX8_either 3 (some .int) := C0
  obtain ⟨hx, hb, hml, hown, hts, hr, hlocks⟩ := id C0
  have hl : lv_has ls 3 [(0, .ref (ad 0))] := hl
  have hS : va_S A s.heap s.heap [] := va_S.rf
  unfold mmw_either at hw
  refine lv_aload_n hx hb dX8_either_0 rfl (lv_at hl 0 rfl) ?_
  refine mm_VI ⟨hx, hb, hml, hown, hts⟩ (hG_both _ _ hw) (cwV 0 hts (lw_V q1494 q1496 qs72 q120 q1497) rfl rfl rfl cd_X8_both ⟨by simp only [mmr_g_parse]; omega, by simp only [mmr_g_parse]; omega⟩) hW (mm_recv hW) hS rfl hl.1 rfl (Nat.le_of_ble_eq_true rfl) dX8_either_1 (fun r2 σ1 H locs hw hW hS => ?_)
  refine lv_istore_n (lv' := [(1, .int r2), (0, .ref (ad 0))]) hx hb dX8_either_4 rfl hl (by decide) rfl (fun ls hl => ?_)
  obtain ⟨n9, hw⟩ := hw
  exact mmk_either_5 hG_either hG_both hG_not hG_added hG_term hG_atom C0   n9 r2 σ1 _ _ _ hw hW hS (lv_sub hl [1, 0] rfl)
/-! GleanersForGapsModel.both()I -/
def mmw_both_45 (G : Nat → gg_S → (Int32 → gg_S → Prop) → Prop) (Q : Int32 → gg_S → Prop) (K5 : Int32 → gg_S → Prop) (s0 : Int32) (σ : gg_S) : Prop :=
    K5 s0 σ
def mmw_both_44 (G : Nat → gg_S → (Int32 → gg_S → Prop) → Prop) (Q : Int32 → gg_S → Prop) (K5 : Int32 → gg_S → Prop)  (σ : gg_S) : Prop :=
    mmw_both_45 G Q K5 (0 : Int32) σ
def mmw_both_5 (G : Nat → gg_S → (Int32 → gg_S → Prop) → Prop) (Q : Int32 → gg_S → Prop)  : Nat → Int32 → gg_S → Prop
  | 0, _, _ => False
  | n + 1, x1, σ =>
    (mmw_isWord (97 : Int32) (110 : Int32) (100 : Int32) (0 : Int32) (0 : Int32) (0 : Int32) (0 : Int32) (0 : Int32) σ (fun r4 σ3 => (((r4 = 0) → Q x1 σ3) ∧ (¬ (r4 = 0) → (mmw_next σ3 (fun σ5 => (G 2 σ5 (fun r7 σ6 => (((x1 = 0) → mmw_both_44 G Q (fun y0 τ => mmw_both_5 G Q n y0 τ) σ6) ∧ (¬ (x1 = 0) → (((r7 = 0) → mmw_both_44 G Q (fun y0 τ => mmw_both_5 G Q n y0 τ) σ6) ∧ (¬ (r7 = 0) → mmw_both_45 G Q (fun y0 τ => mmw_both_5 G Q n y0 τ) (1 : Int32) σ6))))))))))))
def mmw_both (G : Nat → gg_S → (Int32 → gg_S → Prop) → Prop)  (σ : gg_S) (Q : Int32 → gg_S → Prop) : Prop :=
    (G 2 σ (fun r2 σ1 => ∃ k9, mmw_both_5 G Q k9 r2 σ1))
set_option maxHeartbeats 4000000 in
set_option maxRecDepth 100000 in
theorem mmk_both_45 {p : Program} {l : Launch} {e : Env} {s : State} {m : MethodId} {args : Array Value} {below : List Frame} {meth : Method} {c : Code} {d : Nat} {G : Nat → gg_S → (Int32 → gg_S → Prop) → Prop} {D : va_G} {cl : List vw_C} {E : ClassId × ClassId} {A : Nat → Prop} {ad : Nat → Nat} {Q : Int32 → gg_S → Prop} {K5 : Int32 → gg_S → Prop} (hG_either : ∀  (σ : gg_S) (Q : Int32 → gg_S → Prop), G 0 σ Q → Met l yX8_either (ws_ yX8_either cX8_either 3 (some .int)) (mmr_g_parse d) (va_Pc [.ref (ad 0)] (fun U => mm_W D cl E A ad σ U U.heap)) (va_Qi Q (fun u t => mm_W D cl E A ad u t t.heap) A) 0 0 A) (hG_both : ∀  (σ : gg_S) (Q : Int32 → gg_S → Prop), G 1 σ Q → Met l yX8_both (ws_ yX8_both cX8_both 3 (some .int)) (mmr_g_parse d) (va_Pc [.ref (ad 0)] (fun U => mm_W D cl E A ad σ U U.heap)) (va_Qi Q (fun u t => mm_W D cl E A ad u t t.heap) A) 0 0 A) (hG_not : ∀  (σ : gg_S) (Q : Int32 → gg_S → Prop), G 2 σ Q → Met l yX8_not (ws_ yX8_not cX8_not 4 (some .int)) (mmr_g_parse d) (va_Pc [.ref (ad 0)] (fun U => mm_W D cl E A ad σ U U.heap)) (va_Qi Q (fun u t => mm_W D cl E A ad u t t.heap) A) 0 0 A) (hG_added : ∀  (σ : gg_S) (Q : Int32 → gg_S → Prop), G 3 σ Q → Met l yX8_added (ws_ yX8_added cX8_added 4 (some .int)) (mmr_g_parse d) (va_Pc [.ref (ad 0)] (fun U => mm_W D cl E A ad σ U U.heap)) (va_Qi Q (fun u t => mm_W D cl E A ad u t t.heap) A) 0 0 A) (hG_term : ∀  (σ : gg_S) (Q : Int32 → gg_S → Prop), G 4 σ Q → Met l yX8_term (ws_ yX8_term cX8_term 2 (some .int)) (mmr_g_parse d) (va_Pc [.ref (ad 0)] (fun U => mm_W D cl E A ad σ U U.heap)) (va_Qi Q (fun u t => mm_W D cl E A ad u t t.heap) A) 0 0 A) (hG_atom : ∀  (σ : gg_S) (Q : Int32 → gg_S → Prop), G 5 σ Q → Met l yX8_atom (ws_ yX8_atom cX8_atom 2 (some .int)) (mmr_g_parse d) (va_Pc [.ref (ad 0)] (fun U => mm_W D cl E A ad σ U U.heap)) (va_Qi Q (fun u t => mm_W D cl E A ad u t t.heap) A) 0 0 A) (C0 : gg_C p s m args meth c RX8 cX8_both 3 (some .int)) (hK5 : ∀ (x1 : Int32) (σ : gg_S) (H : Heap) (locs : List Loc) (ls : Array Slot), K5 x1 σ → mm_W D cl E A ad σ s H → va_S A s.heap H locs → lv_has ls 3 [(0, .ref (ad 0)), (1, .int x1)] → W p l e (mmr_g_parse (d + 1)) s m args below meth c H locs 0 0 (MQ below (va_Qi Q (fun u t => mm_W D cl E A ad u t t.heap) A) args s 0 0 A) (F0 m 5 ls [])) :
    ∀ (s0 : Int32) (σ : gg_S) (H : Heap) (locs : List Loc) (ls : Array Slot), mmw_both_45 G Q K5 s0 σ → mm_W D cl E A ad σ s H → va_S A s.heap H locs → lv_has ls 3 [(0, .ref (ad 0))] → W p l e (mmr_g_parse (d + 1)) s m args below meth c H locs 0 0 (MQ below (va_Qi Q (fun u t => mm_W D cl E A ad u t t.heap) A) args s 0 0 A) (F0 m 45 ls [.int s0]) := by
  obtain ⟨hx, hb, hml, hown, hts, hr, hlocks⟩ := id C0
  intro s0 σ H locs ls hw hW hS hl
  unfold mmw_both_45 at hw
  refine lv_istore_n (lv' := [(1, .int s0), (0, .ref (ad 0))]) hx hb dX8_both_45 rfl hl (by decide) rfl (fun ls hl => ?_)
  refine lv_goto (tgt := 5) hx hb dX8_both_46 (by decide) ?_
  exact hK5 s0 σ _ _ _ hw hW hS (lv_sub hl [1, 0] rfl)
set_option maxHeartbeats 4000000 in
set_option maxRecDepth 100000 in
theorem mmk_both_44 {p : Program} {l : Launch} {e : Env} {s : State} {m : MethodId} {args : Array Value} {below : List Frame} {meth : Method} {c : Code} {d : Nat} {G : Nat → gg_S → (Int32 → gg_S → Prop) → Prop} {D : va_G} {cl : List vw_C} {E : ClassId × ClassId} {A : Nat → Prop} {ad : Nat → Nat} {Q : Int32 → gg_S → Prop} {K5 : Int32 → gg_S → Prop} (hG_either : ∀  (σ : gg_S) (Q : Int32 → gg_S → Prop), G 0 σ Q → Met l yX8_either (ws_ yX8_either cX8_either 3 (some .int)) (mmr_g_parse d) (va_Pc [.ref (ad 0)] (fun U => mm_W D cl E A ad σ U U.heap)) (va_Qi Q (fun u t => mm_W D cl E A ad u t t.heap) A) 0 0 A) (hG_both : ∀  (σ : gg_S) (Q : Int32 → gg_S → Prop), G 1 σ Q → Met l yX8_both (ws_ yX8_both cX8_both 3 (some .int)) (mmr_g_parse d) (va_Pc [.ref (ad 0)] (fun U => mm_W D cl E A ad σ U U.heap)) (va_Qi Q (fun u t => mm_W D cl E A ad u t t.heap) A) 0 0 A) (hG_not : ∀  (σ : gg_S) (Q : Int32 → gg_S → Prop), G 2 σ Q → Met l yX8_not (ws_ yX8_not cX8_not 4 (some .int)) (mmr_g_parse d) (va_Pc [.ref (ad 0)] (fun U => mm_W D cl E A ad σ U U.heap)) (va_Qi Q (fun u t => mm_W D cl E A ad u t t.heap) A) 0 0 A) (hG_added : ∀  (σ : gg_S) (Q : Int32 → gg_S → Prop), G 3 σ Q → Met l yX8_added (ws_ yX8_added cX8_added 4 (some .int)) (mmr_g_parse d) (va_Pc [.ref (ad 0)] (fun U => mm_W D cl E A ad σ U U.heap)) (va_Qi Q (fun u t => mm_W D cl E A ad u t t.heap) A) 0 0 A) (hG_term : ∀  (σ : gg_S) (Q : Int32 → gg_S → Prop), G 4 σ Q → Met l yX8_term (ws_ yX8_term cX8_term 2 (some .int)) (mmr_g_parse d) (va_Pc [.ref (ad 0)] (fun U => mm_W D cl E A ad σ U U.heap)) (va_Qi Q (fun u t => mm_W D cl E A ad u t t.heap) A) 0 0 A) (hG_atom : ∀  (σ : gg_S) (Q : Int32 → gg_S → Prop), G 5 σ Q → Met l yX8_atom (ws_ yX8_atom cX8_atom 2 (some .int)) (mmr_g_parse d) (va_Pc [.ref (ad 0)] (fun U => mm_W D cl E A ad σ U U.heap)) (va_Qi Q (fun u t => mm_W D cl E A ad u t t.heap) A) 0 0 A) (C0 : gg_C p s m args meth c RX8 cX8_both 3 (some .int)) (hK5 : ∀ (x1 : Int32) (σ : gg_S) (H : Heap) (locs : List Loc) (ls : Array Slot), K5 x1 σ → mm_W D cl E A ad σ s H → va_S A s.heap H locs → lv_has ls 3 [(0, .ref (ad 0)), (1, .int x1)] → W p l e (mmr_g_parse (d + 1)) s m args below meth c H locs 0 0 (MQ below (va_Qi Q (fun u t => mm_W D cl E A ad u t t.heap) A) args s 0 0 A) (F0 m 5 ls [])) :
    ∀  (σ : gg_S) (H : Heap) (locs : List Loc) (ls : Array Slot), mmw_both_44 G Q K5 σ → mm_W D cl E A ad σ s H → va_S A s.heap H locs → lv_has ls 3 [(0, .ref (ad 0))] → W p l e (mmr_g_parse (d + 1)) s m args below meth c H locs 0 0 (MQ below (va_Qi Q (fun u t => mm_W D cl E A ad u t t.heap) A) args s 0 0 A) (F0 m 44 ls []) := by
  obtain ⟨hx, hb, hml, hown, hts, hr, hlocks⟩ := id C0
  intro σ H locs ls hw hW hS hl
  unfold mmw_both_44 at hw
  refine lv_iconst (v := (0 : Int32)) hx hb dX8_both_44 (by decide) ?_
  exact mmk_both_45 hG_either hG_both hG_not hG_added hG_term hG_atom C0  hK5 (0 : Int32) σ _ _ _ hw hW hS (hl)
set_option maxHeartbeats 4000000 in
set_option maxRecDepth 100000 in
theorem mmk_both_5 {p : Program} {l : Launch} {e : Env} {s : State} {m : MethodId} {args : Array Value} {below : List Frame} {meth : Method} {c : Code} {d : Nat} {G : Nat → gg_S → (Int32 → gg_S → Prop) → Prop} {D : va_G} {cl : List vw_C} {E : ClassId × ClassId} {A : Nat → Prop} {ad : Nat → Nat} {Q : Int32 → gg_S → Prop}  (hG_either : ∀  (σ : gg_S) (Q : Int32 → gg_S → Prop), G 0 σ Q → Met l yX8_either (ws_ yX8_either cX8_either 3 (some .int)) (mmr_g_parse d) (va_Pc [.ref (ad 0)] (fun U => mm_W D cl E A ad σ U U.heap)) (va_Qi Q (fun u t => mm_W D cl E A ad u t t.heap) A) 0 0 A) (hG_both : ∀  (σ : gg_S) (Q : Int32 → gg_S → Prop), G 1 σ Q → Met l yX8_both (ws_ yX8_both cX8_both 3 (some .int)) (mmr_g_parse d) (va_Pc [.ref (ad 0)] (fun U => mm_W D cl E A ad σ U U.heap)) (va_Qi Q (fun u t => mm_W D cl E A ad u t t.heap) A) 0 0 A) (hG_not : ∀  (σ : gg_S) (Q : Int32 → gg_S → Prop), G 2 σ Q → Met l yX8_not (ws_ yX8_not cX8_not 4 (some .int)) (mmr_g_parse d) (va_Pc [.ref (ad 0)] (fun U => mm_W D cl E A ad σ U U.heap)) (va_Qi Q (fun u t => mm_W D cl E A ad u t t.heap) A) 0 0 A) (hG_added : ∀  (σ : gg_S) (Q : Int32 → gg_S → Prop), G 3 σ Q → Met l yX8_added (ws_ yX8_added cX8_added 4 (some .int)) (mmr_g_parse d) (va_Pc [.ref (ad 0)] (fun U => mm_W D cl E A ad σ U U.heap)) (va_Qi Q (fun u t => mm_W D cl E A ad u t t.heap) A) 0 0 A) (hG_term : ∀  (σ : gg_S) (Q : Int32 → gg_S → Prop), G 4 σ Q → Met l yX8_term (ws_ yX8_term cX8_term 2 (some .int)) (mmr_g_parse d) (va_Pc [.ref (ad 0)] (fun U => mm_W D cl E A ad σ U U.heap)) (va_Qi Q (fun u t => mm_W D cl E A ad u t t.heap) A) 0 0 A) (hG_atom : ∀  (σ : gg_S) (Q : Int32 → gg_S → Prop), G 5 σ Q → Met l yX8_atom (ws_ yX8_atom cX8_atom 2 (some .int)) (mmr_g_parse d) (va_Pc [.ref (ad 0)] (fun U => mm_W D cl E A ad σ U U.heap)) (va_Qi Q (fun u t => mm_W D cl E A ad u t t.heap) A) 0 0 A) (C0 : gg_C p s m args meth c RX8 cX8_both 3 (some .int))  :
    ∀ n : Nat, ∀ (x1 : Int32) (σ : gg_S) (H : Heap) (locs : List Loc) (ls : Array Slot), mmw_both_5 G Q n x1 σ → mm_W D cl E A ad σ s H → va_S A s.heap H locs → lv_has ls 3 [(0, .ref (ad 0)), (1, .int x1)] → W p l e (mmr_g_parse (d + 1)) s m args below meth c H locs 0 0 (MQ below (va_Qi Q (fun u t => mm_W D cl E A ad u t t.heap) A) args s 0 0 A) (F0 m 5 ls []) := by
  obtain ⟨hx, hb, hml, hown, hts, hr, hlocks⟩ := id C0
  intro n
  induction n with
  | zero =>
    intro x1 σ H locs ls hw hW hS hl
    exact absurd hw (by unfold mmw_both_5; exact id)
  | succ n ih =>
    intro x1 σ H locs ls hw hW hS hl
    unfold mmw_both_5 at hw
    refine lv_aload_n hx hb dX8_both_5 rfl (lv_at hl 0 rfl) ?_
    refine lv_bipush (v := (97 : Int32)) hx hb dX8_both_6 (by decide) ?_
    refine lv_bipush (v := (110 : Int32)) hx hb dX8_both_8 (by decide) ?_
    refine lv_bipush (v := (100 : Int32)) hx hb dX8_both_10 (by decide) ?_
    refine lv_iconst (v := (0 : Int32)) hx hb dX8_both_12 (by decide) ?_
    refine lv_iconst (v := (0 : Int32)) hx hb dX8_both_13 (by decide) ?_
    refine lv_iconst (v := (0 : Int32)) hx hb dX8_both_14 (by decide) ?_
    refine lv_iconst (v := (0 : Int32)) hx hb dX8_both_15 (by decide) ?_
    refine lv_iconst (v := (0 : Int32)) hx hb dX8_both_16 (by decide) ?_
    refine mm_VI ⟨hx, hb, hml, hown, hts⟩ (mmt_isWord l _ _ _ _ _ _ _ _ _ hw) (cwV 8 hts (lw_V q1474 q1476 qs67 q120 q1477) rfl rfl rfl cd_X8_isWord ⟨by simp only [mmr_g_parse, mmr_isWord]; omega, by simp only [mmr_g_parse, mmr_isWord]; omega⟩) hW (mm_recv hW) hS rfl hl.1 rfl (Nat.le_of_ble_eq_true rfl) dX8_both_17 (fun r4 σ3 H locs hw hW hS => ?_)
    obtain ⟨hz_r4, hw⟩ := hw
    refine lv_if_eq (tgt := 49) hx hb dX8_both_20 (by decide) (fun c10 => ?_) (fun c10 => ?_)
    · have hw := hw.1 c10
      refine lv_iload_n hx hb dX8_both_49 rfl (lv_at hl 1 rfl) ?_
      exact gg_iret (mm_mv D cl E A ad) C0 hW hS hw dX8_both_50
    · have hw := hw.2 c10
      refine lv_aload_n hx hb dX8_both_23 rfl (lv_at hl 0 rfl) ?_
      refine mm_VV ⟨hx, hb, hml, hown, hts⟩ (mmt_next l _ hw) (cwV 0 hts (lw_V q1462 q1464 qs65 q120 q1465) rfl rfl rfl cd_X8_next ⟨by simp only [mmr_g_parse, mmr_next]; omega, by simp only [mmr_g_parse, mmr_next]; omega⟩) hW (mm_recv hW) hS rfl hl.1 rfl (Nat.le_of_ble_eq_true rfl) dX8_both_24 (fun σ5 H locs hw hW hS => ?_)
      refine lv_aload_n hx hb dX8_both_27 rfl (lv_at hl 0 rfl) ?_
      refine mm_VI ⟨hx, hb, hml, hown, hts⟩ (hG_not _ _ hw) (cwV 0 hts (lw_V q1498 q1500 qs73 q120 q1501) rfl rfl rfl cd_X8_not ⟨by simp only [mmr_g_parse]; omega, by simp only [mmr_g_parse]; omega⟩) hW (mm_recv hW) hS rfl hl.1 rfl (Nat.le_of_ble_eq_true rfl) dX8_both_28 (fun r7 σ6 H locs hw hW hS => ?_)
      refine lv_istore_n (lv' := [(2, .int r7), (0, .ref (ad 0)), (1, .int x1)]) hx hb dX8_both_31 rfl hl (by decide) rfl (fun ls hl => ?_)
      refine lv_iload_n hx hb dX8_both_32 rfl (lv_at hl 2 rfl) ?_
      refine lv_if_eq (tgt := 44) hx hb dX8_both_33 (by decide) (fun c9 => ?_) (fun c9 => ?_)
      · have hw := hw.1 c9
        exact mmk_both_44 hG_either hG_both hG_not hG_added hG_term hG_atom C0  (fun y0 τ H9 l9 s9 => ih y0 τ H9 l9 s9) σ6 _ _ _ hw hW hS (lv_sub hl [1] rfl)
      · have hw := hw.2 c9
        refine lv_iload_n hx hb dX8_both_36 rfl (lv_at hl 0 rfl) ?_
        refine lv_if_eq (tgt := 44) hx hb dX8_both_37 (by decide) (fun c8 => ?_) (fun c8 => ?_)
        · have hw := hw.1 c8
          exact mmk_both_44 hG_either hG_both hG_not hG_added hG_term hG_atom C0  (fun y0 τ H9 l9 s9 => ih y0 τ H9 l9 s9) σ6 _ _ _ hw hW hS (lv_sub hl [1] rfl)
        · have hw := hw.2 c8
          refine lv_iconst (v := (1 : Int32)) hx hb dX8_both_40 (by decide) ?_
          refine lv_goto (tgt := 45) hx hb dX8_both_41 (by decide) ?_
          exact mmk_both_45 hG_either hG_both hG_not hG_added hG_term hG_atom C0  (fun y0 τ H9 l9 s9 => ih y0 τ H9 l9 s9) (1 : Int32) σ6 _ _ _ hw hW hS (lv_sub hl [1] rfl)
set_option maxHeartbeats 4000000 in
set_option maxRecDepth 100000 in
theorem mmt_both (l : Launch) {d : Nat} {G : Nat → gg_S → (Int32 → gg_S → Prop) → Prop} {D : va_G} {cl : List vw_C} {E : ClassId × ClassId} {A : Nat → Prop} {ad : Nat → Nat} (hG_either : ∀  (σ : gg_S) (Q : Int32 → gg_S → Prop), G 0 σ Q → Met l yX8_either (ws_ yX8_either cX8_either 3 (some .int)) (mmr_g_parse d) (va_Pc [.ref (ad 0)] (fun U => mm_W D cl E A ad σ U U.heap)) (va_Qi Q (fun u t => mm_W D cl E A ad u t t.heap) A) 0 0 A) (hG_both : ∀  (σ : gg_S) (Q : Int32 → gg_S → Prop), G 1 σ Q → Met l yX8_both (ws_ yX8_both cX8_both 3 (some .int)) (mmr_g_parse d) (va_Pc [.ref (ad 0)] (fun U => mm_W D cl E A ad σ U U.heap)) (va_Qi Q (fun u t => mm_W D cl E A ad u t t.heap) A) 0 0 A) (hG_not : ∀  (σ : gg_S) (Q : Int32 → gg_S → Prop), G 2 σ Q → Met l yX8_not (ws_ yX8_not cX8_not 4 (some .int)) (mmr_g_parse d) (va_Pc [.ref (ad 0)] (fun U => mm_W D cl E A ad σ U U.heap)) (va_Qi Q (fun u t => mm_W D cl E A ad u t t.heap) A) 0 0 A) (hG_added : ∀  (σ : gg_S) (Q : Int32 → gg_S → Prop), G 3 σ Q → Met l yX8_added (ws_ yX8_added cX8_added 4 (some .int)) (mmr_g_parse d) (va_Pc [.ref (ad 0)] (fun U => mm_W D cl E A ad σ U U.heap)) (va_Qi Q (fun u t => mm_W D cl E A ad u t t.heap) A) 0 0 A) (hG_term : ∀  (σ : gg_S) (Q : Int32 → gg_S → Prop), G 4 σ Q → Met l yX8_term (ws_ yX8_term cX8_term 2 (some .int)) (mmr_g_parse d) (va_Pc [.ref (ad 0)] (fun U => mm_W D cl E A ad σ U U.heap)) (va_Qi Q (fun u t => mm_W D cl E A ad u t t.heap) A) 0 0 A) (hG_atom : ∀  (σ : gg_S) (Q : Int32 → gg_S → Prop), G 5 σ Q → Met l yX8_atom (ws_ yX8_atom cX8_atom 2 (some .int)) (mmr_g_parse d) (va_Pc [.ref (ad 0)] (fun U => mm_W D cl E A ad σ U U.heap)) (va_Qi Q (fun u t => mm_W D cl E A ad u t t.heap) A) 0 0 A)  (σ : gg_S) {Q : Int32 → gg_S → Prop} (hw : mmw_both G σ Q) :
    Met l yX8_both (ws_ yX8_both cX8_both 3 (some .int)) (mmr_g_parse (d + 1)) (va_Pc [.ref (ad 0)] (fun U => mm_W D cl E A ad σ U U.heap)) (va_Qi Q (fun u t => mm_W D cl E A ad u t t.heap) A) 0 0 A := by
  refine gg_entry (W0 := fun s H => mm_W D cl E A ad σ s H) (by decide) (Nat.le_of_ble_eq_true rfl) ?_
  intro p e s m args below meth c C0 hW ls hl
  have C0 : gg_C p s m args meth c RX8 cX8_both 3 (some .int) := C0
  obtain ⟨hx, hb, hml, hown, hts, hr, hlocks⟩ := id C0
  have hl : lv_has ls 3 [(0, .ref (ad 0))] := hl
  have hS : va_S A s.heap s.heap [] := va_S.rf
  unfold mmw_both at hw
  refine lv_aload_n hx hb dX8_both_0 rfl (lv_at hl 0 rfl) ?_
  refine mm_VI ⟨hx, hb, hml, hown, hts⟩ (hG_not _ _ hw) (cwV 0 hts (lw_V q1498 q1500 qs73 q120 q1501) rfl rfl rfl cd_X8_not ⟨by simp only [mmr_g_parse]; omega, by simp only [mmr_g_parse]; omega⟩) hW (mm_recv hW) hS rfl hl.1 rfl (Nat.le_of_ble_eq_true rfl) dX8_both_1 (fun r2 σ1 H locs hw hW hS => ?_)
  refine lv_istore_n (lv' := [(1, .int r2), (0, .ref (ad 0))]) hx hb dX8_both_4 rfl hl (by decide) rfl (fun ls hl => ?_)
  obtain ⟨n9, hw⟩ := hw
  exact mmk_both_5 hG_either hG_both hG_not hG_added hG_term hG_atom C0   n9 r2 σ1 _ _ _ hw hW hS (lv_sub hl [1, 0] rfl)
/-! GleanersForGapsModel.not()I -/
def mmw_not_120 (G : Nat → gg_S → (Int32 → gg_S → Prop) → Prop) (Q : Int32 → gg_S → Prop)   (σ : gg_S) : Prop :=
    Q (1 : Int32) σ
def mmw_not_93 (G : Nat → gg_S → (Int32 → gg_S → Prop) → Prop) (Q : Int32 → gg_S → Prop)  (x1 : Int32) (s0 : Int32) (σ : gg_S) : Prop :=
    (mmw_next σ (fun σ7 => (G 3 σ7 (fun r9 σ8 => (((s0 = 0) → (((x1 = r9) → mmw_not_120 G Q σ8) ∧ (¬ (x1 = r9) → Q (0 : Int32) σ8))) ∧ (¬ (s0 = 0) → (((r9 ≤ x1) → Q (0 : Int32) σ8) ∧ (¬ (r9 ≤ x1) → mmw_not_120 G Q σ8))))))))
def mmw_not_77 (G : Nat → gg_S → (Int32 → gg_S → Prop) → Prop) (Q : Int32 → gg_S → Prop)  (x1 : Int32) (σ : gg_S) : Prop :=
    ((((lg_cmp σ.2 (60 : Int64)) = 0) → mmw_not_93 G Q x1 (1 : Int32) σ) ∧ (¬ ((lg_cmp σ.2 (60 : Int64)) = 0) → mmw_not_93 G Q x1 (0 : Int32) σ))
def mmw_not (G : Nat → gg_S → (Int32 → gg_S → Prop) → Prop)  (σ : gg_S) (Q : Int32 → gg_S → Prop) : Prop :=
    (mmw_isWord (110 : Int32) (111 : Int32) (116 : Int32) (0 : Int32) (0 : Int32) (0 : Int32) (0 : Int32) (0 : Int32) σ (fun r2 σ1 => (((r2 = 0) → (G 3 σ1 (fun r4 σ3 => (mmw_isSign (60 : Int32) σ3 (fun r6 σ5 => (((r6 = 0) → (mmw_isSign (61 : Int32) σ5 (fun r15 σ14 => (((r15 = 0) → Q r4 σ14) ∧ (¬ (r15 = 0) → mmw_not_77 G Q r4 σ14))))) ∧ (¬ (r6 = 0) → mmw_not_77 G Q r4 σ5))))))) ∧ (¬ (r2 = 0) → (mmw_opens σ1 (fun r19 σ18 => (((r19 = 0) → Q (0 : Int32) σ18) ∧ (¬ (r19 = 0) → (G 2 σ18 (fun r21 σ20 => (∀ σ22 : gg_S, σ22 = gg_s σ20 0 25 ((gg_g σ20 0 25) - (1 : Int32)) → (((r21 = 0) → Q (1 : Int32) σ22) ∧ (¬ (r21 = 0) → Q (0 : Int32) σ22)))))))))))))
set_option maxHeartbeats 4000000 in
set_option maxRecDepth 100000 in
theorem mmk_not_120 {p : Program} {l : Launch} {e : Env} {s : State} {m : MethodId} {args : Array Value} {below : List Frame} {meth : Method} {c : Code} {d : Nat} {G : Nat → gg_S → (Int32 → gg_S → Prop) → Prop} {D : va_G} {cl : List vw_C} {E : ClassId × ClassId} {A : Nat → Prop} {ad : Nat → Nat} {Q : Int32 → gg_S → Prop}  (hG_either : ∀  (σ : gg_S) (Q : Int32 → gg_S → Prop), G 0 σ Q → Met l yX8_either (ws_ yX8_either cX8_either 3 (some .int)) (mmr_g_parse d) (va_Pc [.ref (ad 0)] (fun U => mm_W D cl E A ad σ U U.heap)) (va_Qi Q (fun u t => mm_W D cl E A ad u t t.heap) A) 0 0 A) (hG_both : ∀  (σ : gg_S) (Q : Int32 → gg_S → Prop), G 1 σ Q → Met l yX8_both (ws_ yX8_both cX8_both 3 (some .int)) (mmr_g_parse d) (va_Pc [.ref (ad 0)] (fun U => mm_W D cl E A ad σ U U.heap)) (va_Qi Q (fun u t => mm_W D cl E A ad u t t.heap) A) 0 0 A) (hG_not : ∀  (σ : gg_S) (Q : Int32 → gg_S → Prop), G 2 σ Q → Met l yX8_not (ws_ yX8_not cX8_not 4 (some .int)) (mmr_g_parse d) (va_Pc [.ref (ad 0)] (fun U => mm_W D cl E A ad σ U U.heap)) (va_Qi Q (fun u t => mm_W D cl E A ad u t t.heap) A) 0 0 A) (hG_added : ∀  (σ : gg_S) (Q : Int32 → gg_S → Prop), G 3 σ Q → Met l yX8_added (ws_ yX8_added cX8_added 4 (some .int)) (mmr_g_parse d) (va_Pc [.ref (ad 0)] (fun U => mm_W D cl E A ad σ U U.heap)) (va_Qi Q (fun u t => mm_W D cl E A ad u t t.heap) A) 0 0 A) (hG_term : ∀  (σ : gg_S) (Q : Int32 → gg_S → Prop), G 4 σ Q → Met l yX8_term (ws_ yX8_term cX8_term 2 (some .int)) (mmr_g_parse d) (va_Pc [.ref (ad 0)] (fun U => mm_W D cl E A ad σ U U.heap)) (va_Qi Q (fun u t => mm_W D cl E A ad u t t.heap) A) 0 0 A) (hG_atom : ∀  (σ : gg_S) (Q : Int32 → gg_S → Prop), G 5 σ Q → Met l yX8_atom (ws_ yX8_atom cX8_atom 2 (some .int)) (mmr_g_parse d) (va_Pc [.ref (ad 0)] (fun U => mm_W D cl E A ad σ U U.heap)) (va_Qi Q (fun u t => mm_W D cl E A ad u t t.heap) A) 0 0 A) (C0 : gg_C p s m args meth c RX8 cX8_not 4 (some .int))  :
    ∀  (σ : gg_S) (H : Heap) (locs : List Loc) (ls : Array Slot), mmw_not_120 G Q σ → mm_W D cl E A ad σ s H → va_S A s.heap H locs → lv_has ls 4 [(0, .ref (ad 0))] → W p l e (mmr_g_parse (d + 1)) s m args below meth c H locs 0 0 (MQ below (va_Qi Q (fun u t => mm_W D cl E A ad u t t.heap) A) args s 0 0 A) (F0 m 120 ls []) := by
  obtain ⟨hx, hb, hml, hown, hts, hr, hlocks⟩ := id C0
  intro σ H locs ls hw hW hS hl
  unfold mmw_not_120 at hw
  refine lv_iconst (v := (1 : Int32)) hx hb dX8_not_120 (by decide) ?_
  refine lv_goto (tgt := 125) hx hb dX8_not_121 (by decide) ?_
  exact gg_iret (mm_mv D cl E A ad) C0 hW hS hw dX8_not_125
set_option maxHeartbeats 4000000 in
set_option maxRecDepth 100000 in
theorem mmk_not_93 {p : Program} {l : Launch} {e : Env} {s : State} {m : MethodId} {args : Array Value} {below : List Frame} {meth : Method} {c : Code} {d : Nat} {G : Nat → gg_S → (Int32 → gg_S → Prop) → Prop} {D : va_G} {cl : List vw_C} {E : ClassId × ClassId} {A : Nat → Prop} {ad : Nat → Nat} {Q : Int32 → gg_S → Prop}  (hG_either : ∀  (σ : gg_S) (Q : Int32 → gg_S → Prop), G 0 σ Q → Met l yX8_either (ws_ yX8_either cX8_either 3 (some .int)) (mmr_g_parse d) (va_Pc [.ref (ad 0)] (fun U => mm_W D cl E A ad σ U U.heap)) (va_Qi Q (fun u t => mm_W D cl E A ad u t t.heap) A) 0 0 A) (hG_both : ∀  (σ : gg_S) (Q : Int32 → gg_S → Prop), G 1 σ Q → Met l yX8_both (ws_ yX8_both cX8_both 3 (some .int)) (mmr_g_parse d) (va_Pc [.ref (ad 0)] (fun U => mm_W D cl E A ad σ U U.heap)) (va_Qi Q (fun u t => mm_W D cl E A ad u t t.heap) A) 0 0 A) (hG_not : ∀  (σ : gg_S) (Q : Int32 → gg_S → Prop), G 2 σ Q → Met l yX8_not (ws_ yX8_not cX8_not 4 (some .int)) (mmr_g_parse d) (va_Pc [.ref (ad 0)] (fun U => mm_W D cl E A ad σ U U.heap)) (va_Qi Q (fun u t => mm_W D cl E A ad u t t.heap) A) 0 0 A) (hG_added : ∀  (σ : gg_S) (Q : Int32 → gg_S → Prop), G 3 σ Q → Met l yX8_added (ws_ yX8_added cX8_added 4 (some .int)) (mmr_g_parse d) (va_Pc [.ref (ad 0)] (fun U => mm_W D cl E A ad σ U U.heap)) (va_Qi Q (fun u t => mm_W D cl E A ad u t t.heap) A) 0 0 A) (hG_term : ∀  (σ : gg_S) (Q : Int32 → gg_S → Prop), G 4 σ Q → Met l yX8_term (ws_ yX8_term cX8_term 2 (some .int)) (mmr_g_parse d) (va_Pc [.ref (ad 0)] (fun U => mm_W D cl E A ad σ U U.heap)) (va_Qi Q (fun u t => mm_W D cl E A ad u t t.heap) A) 0 0 A) (hG_atom : ∀  (σ : gg_S) (Q : Int32 → gg_S → Prop), G 5 σ Q → Met l yX8_atom (ws_ yX8_atom cX8_atom 2 (some .int)) (mmr_g_parse d) (va_Pc [.ref (ad 0)] (fun U => mm_W D cl E A ad σ U U.heap)) (va_Qi Q (fun u t => mm_W D cl E A ad u t t.heap) A) 0 0 A) (C0 : gg_C p s m args meth c RX8 cX8_not 4 (some .int))  :
    ∀ (x1 : Int32) (s0 : Int32) (σ : gg_S) (H : Heap) (locs : List Loc) (ls : Array Slot), mmw_not_93 G Q x1 s0 σ → mm_W D cl E A ad σ s H → va_S A s.heap H locs → lv_has ls 4 [(0, .ref (ad 0)), (1, .int x1)] → W p l e (mmr_g_parse (d + 1)) s m args below meth c H locs 0 0 (MQ below (va_Qi Q (fun u t => mm_W D cl E A ad u t t.heap) A) args s 0 0 A) (F0 m 93 ls [.int s0]) := by
  obtain ⟨hx, hb, hml, hown, hts, hr, hlocks⟩ := id C0
  intro x1 s0 σ H locs ls hw hW hS hl
  unfold mmw_not_93 at hw
  refine lv_istore_n (lv' := [(2, .int s0), (0, .ref (ad 0)), (1, .int x1)]) hx hb dX8_not_93 rfl hl (by decide) rfl (fun ls hl => ?_)
  refine lv_aload_n hx hb dX8_not_94 rfl (lv_at hl 1 rfl) ?_
  refine mm_VV ⟨hx, hb, hml, hown, hts⟩ (mmt_next l _ hw) (cwV 0 hts (lw_V q1462 q1464 qs65 q120 q1465) rfl rfl rfl cd_X8_next ⟨by simp only [mmr_g_parse, mmr_next]; omega, by simp only [mmr_g_parse, mmr_next]; omega⟩) hW (mm_recv hW) hS rfl hl.1 rfl (Nat.le_of_ble_eq_true rfl) dX8_not_95 (fun σ7 H locs hw hW hS => ?_)
  refine lv_aload_n hx hb dX8_not_98 rfl (lv_at hl 1 rfl) ?_
  refine mm_VI ⟨hx, hb, hml, hown, hts⟩ (hG_added _ _ hw) (cwV 0 hts (lw_V q1506 q1508 qs75 q120 q1509) rfl rfl rfl cd_X8_added ⟨by simp only [mmr_g_parse]; omega, by simp only [mmr_g_parse]; omega⟩) hW (mm_recv hW) hS rfl hl.1 rfl (Nat.le_of_ble_eq_true rfl) dX8_not_99 (fun r9 σ8 H locs hw hW hS => ?_)
  refine lv_istore_n (lv' := [(3, .int r9), (2, .int s0), (0, .ref (ad 0)), (1, .int x1)]) hx hb dX8_not_102 rfl hl (by decide) rfl (fun ls hl => ?_)
  refine lv_iload_n hx hb dX8_not_103 rfl (lv_at hl 1 rfl) ?_
  refine lv_if_eq (tgt := 115) hx hb dX8_not_104 (by decide) (fun c12 => ?_) (fun c12 => ?_)
  · have hw := hw.1 c12
    refine lv_iload_n hx hb dX8_not_115 rfl (lv_at hl 3 rfl) ?_
    refine lv_iload_n hx hb dX8_not_116 rfl (lv_at hl 0 rfl) ?_
    refine lv_icmp_ne (tgt := 124) hx hb dX8_not_117 (by decide) (fun c10 => ?_) (fun c10 => ?_)
    · have hw := hw.2 c10
      refine lv_iconst (v := (0 : Int32)) hx hb dX8_not_124 (by decide) ?_
      exact gg_iret (mm_mv D cl E A ad) C0 hW hS hw dX8_not_125
    · have hw := hw.1 c10
      exact mmk_not_120 hG_either hG_both hG_not hG_added hG_term hG_atom C0   σ8 _ _ _ hw hW hS (lv_sub hl [2] rfl)
  · have hw := hw.2 c12
    refine lv_iload_n hx hb dX8_not_107 rfl (lv_at hl 3 rfl) ?_
    refine lv_iload_n hx hb dX8_not_108 rfl (lv_at hl 0 rfl) ?_
    refine lv_icmp_ge (tgt := 124) hx hb dX8_not_109 (by decide) (fun c11 => ?_) (fun c11 => ?_)
    · have hw := hw.1 c11
      refine lv_iconst (v := (0 : Int32)) hx hb dX8_not_124 (by decide) ?_
      exact gg_iret (mm_mv D cl E A ad) C0 hW hS hw dX8_not_125
    · have hw := hw.2 c11
      refine lv_goto (tgt := 120) hx hb dX8_not_112 (by decide) ?_
      exact mmk_not_120 hG_either hG_both hG_not hG_added hG_term hG_atom C0   σ8 _ _ _ hw hW hS (lv_sub hl [2] rfl)
set_option maxHeartbeats 4000000 in
set_option maxRecDepth 100000 in
theorem mmk_not_77 {p : Program} {l : Launch} {e : Env} {s : State} {m : MethodId} {args : Array Value} {below : List Frame} {meth : Method} {c : Code} {d : Nat} {G : Nat → gg_S → (Int32 → gg_S → Prop) → Prop} {D : va_G} {cl : List vw_C} {E : ClassId × ClassId} {A : Nat → Prop} {ad : Nat → Nat} {Q : Int32 → gg_S → Prop}  (hG_either : ∀  (σ : gg_S) (Q : Int32 → gg_S → Prop), G 0 σ Q → Met l yX8_either (ws_ yX8_either cX8_either 3 (some .int)) (mmr_g_parse d) (va_Pc [.ref (ad 0)] (fun U => mm_W D cl E A ad σ U U.heap)) (va_Qi Q (fun u t => mm_W D cl E A ad u t t.heap) A) 0 0 A) (hG_both : ∀  (σ : gg_S) (Q : Int32 → gg_S → Prop), G 1 σ Q → Met l yX8_both (ws_ yX8_both cX8_both 3 (some .int)) (mmr_g_parse d) (va_Pc [.ref (ad 0)] (fun U => mm_W D cl E A ad σ U U.heap)) (va_Qi Q (fun u t => mm_W D cl E A ad u t t.heap) A) 0 0 A) (hG_not : ∀  (σ : gg_S) (Q : Int32 → gg_S → Prop), G 2 σ Q → Met l yX8_not (ws_ yX8_not cX8_not 4 (some .int)) (mmr_g_parse d) (va_Pc [.ref (ad 0)] (fun U => mm_W D cl E A ad σ U U.heap)) (va_Qi Q (fun u t => mm_W D cl E A ad u t t.heap) A) 0 0 A) (hG_added : ∀  (σ : gg_S) (Q : Int32 → gg_S → Prop), G 3 σ Q → Met l yX8_added (ws_ yX8_added cX8_added 4 (some .int)) (mmr_g_parse d) (va_Pc [.ref (ad 0)] (fun U => mm_W D cl E A ad σ U U.heap)) (va_Qi Q (fun u t => mm_W D cl E A ad u t t.heap) A) 0 0 A) (hG_term : ∀  (σ : gg_S) (Q : Int32 → gg_S → Prop), G 4 σ Q → Met l yX8_term (ws_ yX8_term cX8_term 2 (some .int)) (mmr_g_parse d) (va_Pc [.ref (ad 0)] (fun U => mm_W D cl E A ad σ U U.heap)) (va_Qi Q (fun u t => mm_W D cl E A ad u t t.heap) A) 0 0 A) (hG_atom : ∀  (σ : gg_S) (Q : Int32 → gg_S → Prop), G 5 σ Q → Met l yX8_atom (ws_ yX8_atom cX8_atom 2 (some .int)) (mmr_g_parse d) (va_Pc [.ref (ad 0)] (fun U => mm_W D cl E A ad σ U U.heap)) (va_Qi Q (fun u t => mm_W D cl E A ad u t t.heap) A) 0 0 A) (C0 : gg_C p s m args meth c RX8 cX8_not 4 (some .int))  :
    ∀ (x1 : Int32) (σ : gg_S) (H : Heap) (locs : List Loc) (ls : Array Slot), mmw_not_77 G Q x1 σ → mm_W D cl E A ad σ s H → va_S A s.heap H locs → lv_has ls 4 [(0, .ref (ad 0)), (1, .int x1)] → W p l e (mmr_g_parse (d + 1)) s m args below meth c H locs 0 0 (MQ below (va_Qi Q (fun u t => mm_W D cl E A ad u t t.heap) A) args s 0 0 A) (F0 m 77 ls []) := by
  obtain ⟨hx, hb, hml, hown, hts, hr, hlocks⟩ := id C0
  intro x1 σ H locs ls hw hW hS hl
  unfold mmw_not_77 at hw
  refine lv_aload_n hx hb dX8_not_77 rfl (lv_at hl 0 rfl) ?_
  refine mm_getw hx hb hts hown hW q1295 dX8_not_78 ?_
  refine lv_ldc2 (own := RX8) (v := (60 : Int64)) hx hb hown (hts _ q1527) dX8_not_81 ?_
  refine W.lcmp hx hb dX8_not_84 ?_
  refine lv_if_ne (tgt := 92) hx hb dX8_not_85 (by decide) (fun c13 => ?_) (fun c13 => ?_)
  · have hw := hw.2 c13
    refine lv_iconst (v := (0 : Int32)) hx hb dX8_not_92 (by decide) ?_
    exact mmk_not_93 hG_either hG_both hG_not hG_added hG_term hG_atom C0   x1 (0 : Int32) σ _ _ _ hw hW hS (hl)
  · have hw := hw.1 c13
    refine lv_iconst (v := (1 : Int32)) hx hb dX8_not_88 (by decide) ?_
    refine lv_goto (tgt := 93) hx hb dX8_not_89 (by decide) ?_
    exact mmk_not_93 hG_either hG_both hG_not hG_added hG_term hG_atom C0   x1 (1 : Int32) σ _ _ _ hw hW hS (hl)
set_option maxHeartbeats 4000000 in
set_option maxRecDepth 100000 in
theorem mmt_not (l : Launch) {d : Nat} {G : Nat → gg_S → (Int32 → gg_S → Prop) → Prop} {D : va_G} {cl : List vw_C} {E : ClassId × ClassId} {A : Nat → Prop} {ad : Nat → Nat} (hG_either : ∀  (σ : gg_S) (Q : Int32 → gg_S → Prop), G 0 σ Q → Met l yX8_either (ws_ yX8_either cX8_either 3 (some .int)) (mmr_g_parse d) (va_Pc [.ref (ad 0)] (fun U => mm_W D cl E A ad σ U U.heap)) (va_Qi Q (fun u t => mm_W D cl E A ad u t t.heap) A) 0 0 A) (hG_both : ∀  (σ : gg_S) (Q : Int32 → gg_S → Prop), G 1 σ Q → Met l yX8_both (ws_ yX8_both cX8_both 3 (some .int)) (mmr_g_parse d) (va_Pc [.ref (ad 0)] (fun U => mm_W D cl E A ad σ U U.heap)) (va_Qi Q (fun u t => mm_W D cl E A ad u t t.heap) A) 0 0 A) (hG_not : ∀  (σ : gg_S) (Q : Int32 → gg_S → Prop), G 2 σ Q → Met l yX8_not (ws_ yX8_not cX8_not 4 (some .int)) (mmr_g_parse d) (va_Pc [.ref (ad 0)] (fun U => mm_W D cl E A ad σ U U.heap)) (va_Qi Q (fun u t => mm_W D cl E A ad u t t.heap) A) 0 0 A) (hG_added : ∀  (σ : gg_S) (Q : Int32 → gg_S → Prop), G 3 σ Q → Met l yX8_added (ws_ yX8_added cX8_added 4 (some .int)) (mmr_g_parse d) (va_Pc [.ref (ad 0)] (fun U => mm_W D cl E A ad σ U U.heap)) (va_Qi Q (fun u t => mm_W D cl E A ad u t t.heap) A) 0 0 A) (hG_term : ∀  (σ : gg_S) (Q : Int32 → gg_S → Prop), G 4 σ Q → Met l yX8_term (ws_ yX8_term cX8_term 2 (some .int)) (mmr_g_parse d) (va_Pc [.ref (ad 0)] (fun U => mm_W D cl E A ad σ U U.heap)) (va_Qi Q (fun u t => mm_W D cl E A ad u t t.heap) A) 0 0 A) (hG_atom : ∀  (σ : gg_S) (Q : Int32 → gg_S → Prop), G 5 σ Q → Met l yX8_atom (ws_ yX8_atom cX8_atom 2 (some .int)) (mmr_g_parse d) (va_Pc [.ref (ad 0)] (fun U => mm_W D cl E A ad σ U U.heap)) (va_Qi Q (fun u t => mm_W D cl E A ad u t t.heap) A) 0 0 A)  (σ : gg_S) {Q : Int32 → gg_S → Prop} (hw : mmw_not G σ Q) :
    Met l yX8_not (ws_ yX8_not cX8_not 4 (some .int)) (mmr_g_parse (d + 1)) (va_Pc [.ref (ad 0)] (fun U => mm_W D cl E A ad σ U U.heap)) (va_Qi Q (fun u t => mm_W D cl E A ad u t t.heap) A) 0 0 A := by
  refine gg_entry (W0 := fun s H => mm_W D cl E A ad σ s H) (by decide) (Nat.le_of_ble_eq_true rfl) ?_
  intro p e s m args below meth c C0 hW ls hl
  have C0 : gg_C p s m args meth c RX8 cX8_not 4 (some .int) := C0
  obtain ⟨hx, hb, hml, hown, hts, hr, hlocks⟩ := id C0
  have hl : lv_has ls 4 [(0, .ref (ad 0))] := hl
  have hS : va_S A s.heap s.heap [] := va_S.rf
  unfold mmw_not at hw
  refine lv_aload_n hx hb dX8_not_0 rfl (lv_at hl 0 rfl) ?_
  refine lv_bipush (v := (110 : Int32)) hx hb dX8_not_1 (by decide) ?_
  refine lv_bipush (v := (111 : Int32)) hx hb dX8_not_3 (by decide) ?_
  refine lv_bipush (v := (116 : Int32)) hx hb dX8_not_5 (by decide) ?_
  refine lv_iconst (v := (0 : Int32)) hx hb dX8_not_7 (by decide) ?_
  refine lv_iconst (v := (0 : Int32)) hx hb dX8_not_8 (by decide) ?_
  refine lv_iconst (v := (0 : Int32)) hx hb dX8_not_9 (by decide) ?_
  refine lv_iconst (v := (0 : Int32)) hx hb dX8_not_10 (by decide) ?_
  refine lv_iconst (v := (0 : Int32)) hx hb dX8_not_11 (by decide) ?_
  refine mm_VI ⟨hx, hb, hml, hown, hts⟩ (mmt_isWord l _ _ _ _ _ _ _ _ _ hw) (cwV 8 hts (lw_V q1474 q1476 qs67 q120 q1477) rfl rfl rfl cd_X8_isWord ⟨by simp only [mmr_g_parse, mmr_isWord]; omega, by simp only [mmr_g_parse, mmr_isWord]; omega⟩) hW (mm_recv hW) hS rfl hl.1 rfl (Nat.le_of_ble_eq_true rfl) dX8_not_12 (fun r2 σ1 H locs hw hW hS => ?_)
  obtain ⟨hz_r2, hw⟩ := hw
  refine lv_if_eq (tgt := 52) hx hb dX8_not_15 (by decide) (fun c25 => ?_) (fun c25 => ?_)
  · have hw := hw.1 c25
    refine lv_aload_n hx hb dX8_not_52 rfl (lv_at hl 0 rfl) ?_
    refine mm_VI ⟨hx, hb, hml, hown, hts⟩ (hG_added _ _ hw) (cwV 0 hts (lw_V q1506 q1508 qs75 q120 q1509) rfl rfl rfl cd_X8_added ⟨by simp only [mmr_g_parse]; omega, by simp only [mmr_g_parse]; omega⟩) hW (mm_recv hW) hS rfl hl.1 rfl (Nat.le_of_ble_eq_true rfl) dX8_not_53 (fun r4 σ3 H locs hw hW hS => ?_)
    refine lv_istore_n (lv' := [(1, .int r4), (0, .ref (ad 0))]) hx hb dX8_not_56 rfl hl (by decide) rfl (fun ls hl => ?_)
    refine lv_aload_n hx hb dX8_not_57 rfl (lv_at hl 1 rfl) ?_
    refine lv_bipush (v := (60 : Int32)) hx hb dX8_not_58 (by decide) ?_
    refine mm_VI ⟨hx, hb, hml, hown, hts⟩ (mmt_isSign l _ _ hw) (cwV 1 hts (lw_V q1518 q1520 qs78 q120 q1521) rfl rfl rfl cd_X8_isSign ⟨by simp only [mmr_g_parse, mmr_isSign]; omega, by simp only [mmr_g_parse, mmr_isSign]; omega⟩) hW (mm_recv hW) hS rfl hl.1 rfl (Nat.le_of_ble_eq_true rfl) dX8_not_60 (fun r6 σ5 H locs hw hW hS => ?_)
    obtain ⟨hz_r6, hw⟩ := hw
    refine lv_if_ne (tgt := 77) hx hb dX8_not_63 (by decide) (fun c17 => ?_) (fun c17 => ?_)
    · have hw := hw.2 c17
      exact mmk_not_77 hG_either hG_both hG_not hG_added hG_term hG_atom C0   r4 σ5 _ _ _ hw hW hS (lv_sub hl [1, 0] rfl)
    · have hw := hw.1 c17
      refine lv_aload_n hx hb dX8_not_66 rfl (lv_at hl 1 rfl) ?_
      refine lv_bipush (v := (61 : Int32)) hx hb dX8_not_67 (by decide) ?_
      refine mm_VI ⟨hx, hb, hml, hown, hts⟩ (mmt_isSign l _ _ hw) (cwV 1 hts (lw_V q1518 q1520 qs78 q120 q1521) rfl rfl rfl cd_X8_isSign ⟨by simp only [mmr_g_parse, mmr_isSign]; omega, by simp only [mmr_g_parse, mmr_isSign]; omega⟩) hW (mm_recv hW) hS rfl hl.1 rfl (Nat.le_of_ble_eq_true rfl) dX8_not_69 (fun r15 σ14 H locs hw hW hS => ?_)
      obtain ⟨hz_r15, hw⟩ := hw
      refine lv_if_ne (tgt := 77) hx hb dX8_not_72 (by decide) (fun c16 => ?_) (fun c16 => ?_)
      · have hw := hw.2 c16
        exact mmk_not_77 hG_either hG_both hG_not hG_added hG_term hG_atom C0   r4 σ14 _ _ _ hw hW hS (lv_sub hl [1, 0] rfl)
      · have hw := hw.1 c16
        refine lv_iload_n hx hb dX8_not_75 rfl (lv_at hl 0 rfl) ?_
        exact gg_iret (mm_mv D cl E A ad) C0 hW hS hw dX8_not_76
  · have hw := hw.2 c25
    refine lv_aload_n hx hb dX8_not_18 rfl (lv_at hl 0 rfl) ?_
    refine mm_VI ⟨hx, hb, hml, hown, hts⟩ (mmt_opens l _ hw) (cwV 0 hts (lw_V q1502 q1504 qs74 q120 q1505) rfl rfl rfl cd_X8_opens ⟨by simp only [mmr_g_parse, mmr_opens]; omega, by simp only [mmr_g_parse, mmr_opens]; omega⟩) hW (mm_recv hW) hS rfl hl.1 rfl (Nat.le_of_ble_eq_true rfl) dX8_not_19 (fun r19 σ18 H locs hw hW hS => ?_)
    obtain ⟨hz_r19, hw⟩ := hw
    refine lv_if_ne (tgt := 27) hx hb dX8_not_22 (by decide) (fun c24 => ?_) (fun c24 => ?_)
    · have hw := hw.2 c24
      refine lv_aload_n hx hb dX8_not_27 rfl (lv_at hl 0 rfl) ?_
      refine mm_VI ⟨hx, hb, hml, hown, hts⟩ (hG_not _ _ hw) (cwV 0 hts (lw_V q1498 q1500 qs73 q120 q1501) rfl rfl rfl cd_X8_not ⟨by simp only [mmr_g_parse]; omega, by simp only [mmr_g_parse]; omega⟩) hW (mm_recv hW) hS rfl hl.1 rfl (Nat.le_of_ble_eq_true rfl) dX8_not_28 (fun r21 σ20 H locs hw hW hS => ?_)
      refine lv_istore_n (lv' := [(1, .int r21), (0, .ref (ad 0))]) hx hb dX8_not_31 rfl hl (by decide) rfl (fun ls hl => ?_)
      refine lv_aload_n hx hb dX8_not_32 rfl (lv_at hl 1 rfl) ?_
      refine lv_dup hx hb dX8_not_33 rfl ?_
      refine mm_geti hx hb hts hown hW 25 (by decide) q1296 dX8_not_34 ?_
      refine lv_iconst (v := (1 : Int32)) hx hb dX8_not_37 (by decide) ?_
      refine lv_isub hx hb dX8_not_38 ?_
      refine mm_puti hx hb hts hown hW hS 25 (by decide) q1296 rfl rfl rfl dX8_not_39 (fun H locs hW hS => ?_)
      obtain ⟨σ22, eσ22⟩ : ∃ z, z = gg_s σ20 0 25 ((gg_g σ20 0 25) - (1 : Int32)) := ⟨_, rfl⟩
      rw [← eσ22] at hW
      have hw := hw σ22 eσ22
      refine lv_iload_n hx hb dX8_not_42 rfl (lv_at hl 0 rfl) ?_
      refine lv_if_ne (tgt := 50) hx hb dX8_not_43 (by decide) (fun c23 => ?_) (fun c23 => ?_)
      · have hw := hw.2 c23
        refine lv_iconst (v := (0 : Int32)) hx hb dX8_not_50 (by decide) ?_
        exact gg_iret (mm_mv D cl E A ad) C0 hW hS hw dX8_not_51
      · have hw := hw.1 c23
        refine lv_iconst (v := (1 : Int32)) hx hb dX8_not_46 (by decide) ?_
        refine lv_goto (tgt := 51) hx hb dX8_not_47 (by decide) ?_
        exact gg_iret (mm_mv D cl E A ad) C0 hW hS hw dX8_not_51
    · have hw := hw.1 c24
      refine lv_iconst (v := (0 : Int32)) hx hb dX8_not_25 (by decide) ?_
      exact gg_iret (mm_mv D cl E A ad) C0 hW hS hw dX8_not_26
/-! GleanersForGapsModel.added()I -/
def mmw_added_62 (G : Nat → gg_S → (Int32 → gg_S → Prop) → Prop) (Q : Int32 → gg_S → Prop) (K5 : Int32 → gg_S → Prop) (s0 : Int32) (σ : gg_S) : Prop :=
    K5 s0 σ
def mmw_added_39 (G : Nat → gg_S → (Int32 → gg_S → Prop) → Prop) (Q : Int32 → gg_S → Prop) (K5 : Int32 → gg_S → Prop) (x1 : Int32) (s0 : Int32) (σ : gg_S) : Prop :=
    (mmw_next σ (fun σ5 => (G 4 σ5 (fun r7 σ6 => (((s0 = 0) → mmw_added_62 G Q K5 (x1 - r7) σ6) ∧ (¬ (s0 = 0) → mmw_added_62 G Q K5 (x1 + r7) σ6))))))
def mmw_added_23 (G : Nat → gg_S → (Int32 → gg_S → Prop) → Prop) (Q : Int32 → gg_S → Prop) (K5 : Int32 → gg_S → Prop) (x1 : Int32) (σ : gg_S) : Prop :=
    ((((lg_cmp σ.2 (43 : Int64)) = 0) → mmw_added_39 G Q K5 x1 (1 : Int32) σ) ∧ (¬ ((lg_cmp σ.2 (43 : Int64)) = 0) → mmw_added_39 G Q K5 x1 (0 : Int32) σ))
def mmw_added_5 (G : Nat → gg_S → (Int32 → gg_S → Prop) → Prop) (Q : Int32 → gg_S → Prop)  : Nat → Int32 → gg_S → Prop
  | 0, _, _ => False
  | n + 1, x1, σ =>
    (mmw_isSign (43 : Int32) σ (fun r4 σ3 => (((r4 = 0) → (mmw_isSign (45 : Int32) σ3 (fun r11 σ10 => (((r11 = 0) → Q x1 σ10) ∧ (¬ (r11 = 0) → mmw_added_23 G Q (fun y0 τ => mmw_added_5 G Q n y0 τ) x1 σ10))))) ∧ (¬ (r4 = 0) → mmw_added_23 G Q (fun y0 τ => mmw_added_5 G Q n y0 τ) x1 σ3))))
def mmw_added (G : Nat → gg_S → (Int32 → gg_S → Prop) → Prop)  (σ : gg_S) (Q : Int32 → gg_S → Prop) : Prop :=
    (G 4 σ (fun r2 σ1 => ∃ k9, mmw_added_5 G Q k9 r2 σ1))
set_option maxHeartbeats 4000000 in
set_option maxRecDepth 100000 in
theorem mmk_added_62 {p : Program} {l : Launch} {e : Env} {s : State} {m : MethodId} {args : Array Value} {below : List Frame} {meth : Method} {c : Code} {d : Nat} {G : Nat → gg_S → (Int32 → gg_S → Prop) → Prop} {D : va_G} {cl : List vw_C} {E : ClassId × ClassId} {A : Nat → Prop} {ad : Nat → Nat} {Q : Int32 → gg_S → Prop} {K5 : Int32 → gg_S → Prop} (hG_either : ∀  (σ : gg_S) (Q : Int32 → gg_S → Prop), G 0 σ Q → Met l yX8_either (ws_ yX8_either cX8_either 3 (some .int)) (mmr_g_parse d) (va_Pc [.ref (ad 0)] (fun U => mm_W D cl E A ad σ U U.heap)) (va_Qi Q (fun u t => mm_W D cl E A ad u t t.heap) A) 0 0 A) (hG_both : ∀  (σ : gg_S) (Q : Int32 → gg_S → Prop), G 1 σ Q → Met l yX8_both (ws_ yX8_both cX8_both 3 (some .int)) (mmr_g_parse d) (va_Pc [.ref (ad 0)] (fun U => mm_W D cl E A ad σ U U.heap)) (va_Qi Q (fun u t => mm_W D cl E A ad u t t.heap) A) 0 0 A) (hG_not : ∀  (σ : gg_S) (Q : Int32 → gg_S → Prop), G 2 σ Q → Met l yX8_not (ws_ yX8_not cX8_not 4 (some .int)) (mmr_g_parse d) (va_Pc [.ref (ad 0)] (fun U => mm_W D cl E A ad σ U U.heap)) (va_Qi Q (fun u t => mm_W D cl E A ad u t t.heap) A) 0 0 A) (hG_added : ∀  (σ : gg_S) (Q : Int32 → gg_S → Prop), G 3 σ Q → Met l yX8_added (ws_ yX8_added cX8_added 4 (some .int)) (mmr_g_parse d) (va_Pc [.ref (ad 0)] (fun U => mm_W D cl E A ad σ U U.heap)) (va_Qi Q (fun u t => mm_W D cl E A ad u t t.heap) A) 0 0 A) (hG_term : ∀  (σ : gg_S) (Q : Int32 → gg_S → Prop), G 4 σ Q → Met l yX8_term (ws_ yX8_term cX8_term 2 (some .int)) (mmr_g_parse d) (va_Pc [.ref (ad 0)] (fun U => mm_W D cl E A ad σ U U.heap)) (va_Qi Q (fun u t => mm_W D cl E A ad u t t.heap) A) 0 0 A) (hG_atom : ∀  (σ : gg_S) (Q : Int32 → gg_S → Prop), G 5 σ Q → Met l yX8_atom (ws_ yX8_atom cX8_atom 2 (some .int)) (mmr_g_parse d) (va_Pc [.ref (ad 0)] (fun U => mm_W D cl E A ad σ U U.heap)) (va_Qi Q (fun u t => mm_W D cl E A ad u t t.heap) A) 0 0 A) (C0 : gg_C p s m args meth c RX8 cX8_added 4 (some .int)) (hK5 : ∀ (x1 : Int32) (σ : gg_S) (H : Heap) (locs : List Loc) (ls : Array Slot), K5 x1 σ → mm_W D cl E A ad σ s H → va_S A s.heap H locs → lv_has ls 4 [(0, .ref (ad 0)), (1, .int x1)] → W p l e (mmr_g_parse (d + 1)) s m args below meth c H locs 0 0 (MQ below (va_Qi Q (fun u t => mm_W D cl E A ad u t t.heap) A) args s 0 0 A) (F0 m 5 ls [])) :
    ∀ (s0 : Int32) (σ : gg_S) (H : Heap) (locs : List Loc) (ls : Array Slot), mmw_added_62 G Q K5 s0 σ → mm_W D cl E A ad σ s H → va_S A s.heap H locs → lv_has ls 4 [(0, .ref (ad 0))] → W p l e (mmr_g_parse (d + 1)) s m args below meth c H locs 0 0 (MQ below (va_Qi Q (fun u t => mm_W D cl E A ad u t t.heap) A) args s 0 0 A) (F0 m 62 ls [.int s0]) := by
  obtain ⟨hx, hb, hml, hown, hts, hr, hlocks⟩ := id C0
  intro s0 σ H locs ls hw hW hS hl
  unfold mmw_added_62 at hw
  refine lv_istore_n (lv' := [(1, .int s0), (0, .ref (ad 0))]) hx hb dX8_added_62 rfl hl (by decide) rfl (fun ls hl => ?_)
  refine lv_goto (tgt := 5) hx hb dX8_added_63 (by decide) ?_
  exact hK5 s0 σ _ _ _ hw hW hS (lv_sub hl [1, 0] rfl)
set_option maxHeartbeats 4000000 in
set_option maxRecDepth 100000 in
theorem mmk_added_39 {p : Program} {l : Launch} {e : Env} {s : State} {m : MethodId} {args : Array Value} {below : List Frame} {meth : Method} {c : Code} {d : Nat} {G : Nat → gg_S → (Int32 → gg_S → Prop) → Prop} {D : va_G} {cl : List vw_C} {E : ClassId × ClassId} {A : Nat → Prop} {ad : Nat → Nat} {Q : Int32 → gg_S → Prop} {K5 : Int32 → gg_S → Prop} (hG_either : ∀  (σ : gg_S) (Q : Int32 → gg_S → Prop), G 0 σ Q → Met l yX8_either (ws_ yX8_either cX8_either 3 (some .int)) (mmr_g_parse d) (va_Pc [.ref (ad 0)] (fun U => mm_W D cl E A ad σ U U.heap)) (va_Qi Q (fun u t => mm_W D cl E A ad u t t.heap) A) 0 0 A) (hG_both : ∀  (σ : gg_S) (Q : Int32 → gg_S → Prop), G 1 σ Q → Met l yX8_both (ws_ yX8_both cX8_both 3 (some .int)) (mmr_g_parse d) (va_Pc [.ref (ad 0)] (fun U => mm_W D cl E A ad σ U U.heap)) (va_Qi Q (fun u t => mm_W D cl E A ad u t t.heap) A) 0 0 A) (hG_not : ∀  (σ : gg_S) (Q : Int32 → gg_S → Prop), G 2 σ Q → Met l yX8_not (ws_ yX8_not cX8_not 4 (some .int)) (mmr_g_parse d) (va_Pc [.ref (ad 0)] (fun U => mm_W D cl E A ad σ U U.heap)) (va_Qi Q (fun u t => mm_W D cl E A ad u t t.heap) A) 0 0 A) (hG_added : ∀  (σ : gg_S) (Q : Int32 → gg_S → Prop), G 3 σ Q → Met l yX8_added (ws_ yX8_added cX8_added 4 (some .int)) (mmr_g_parse d) (va_Pc [.ref (ad 0)] (fun U => mm_W D cl E A ad σ U U.heap)) (va_Qi Q (fun u t => mm_W D cl E A ad u t t.heap) A) 0 0 A) (hG_term : ∀  (σ : gg_S) (Q : Int32 → gg_S → Prop), G 4 σ Q → Met l yX8_term (ws_ yX8_term cX8_term 2 (some .int)) (mmr_g_parse d) (va_Pc [.ref (ad 0)] (fun U => mm_W D cl E A ad σ U U.heap)) (va_Qi Q (fun u t => mm_W D cl E A ad u t t.heap) A) 0 0 A) (hG_atom : ∀  (σ : gg_S) (Q : Int32 → gg_S → Prop), G 5 σ Q → Met l yX8_atom (ws_ yX8_atom cX8_atom 2 (some .int)) (mmr_g_parse d) (va_Pc [.ref (ad 0)] (fun U => mm_W D cl E A ad σ U U.heap)) (va_Qi Q (fun u t => mm_W D cl E A ad u t t.heap) A) 0 0 A) (C0 : gg_C p s m args meth c RX8 cX8_added 4 (some .int)) (hK5 : ∀ (x1 : Int32) (σ : gg_S) (H : Heap) (locs : List Loc) (ls : Array Slot), K5 x1 σ → mm_W D cl E A ad σ s H → va_S A s.heap H locs → lv_has ls 4 [(0, .ref (ad 0)), (1, .int x1)] → W p l e (mmr_g_parse (d + 1)) s m args below meth c H locs 0 0 (MQ below (va_Qi Q (fun u t => mm_W D cl E A ad u t t.heap) A) args s 0 0 A) (F0 m 5 ls [])) :
    ∀ (x1 : Int32) (s0 : Int32) (σ : gg_S) (H : Heap) (locs : List Loc) (ls : Array Slot), mmw_added_39 G Q K5 x1 s0 σ → mm_W D cl E A ad σ s H → va_S A s.heap H locs → lv_has ls 4 [(0, .ref (ad 0)), (1, .int x1)] → W p l e (mmr_g_parse (d + 1)) s m args below meth c H locs 0 0 (MQ below (va_Qi Q (fun u t => mm_W D cl E A ad u t t.heap) A) args s 0 0 A) (F0 m 39 ls [.int s0]) := by
  obtain ⟨hx, hb, hml, hown, hts, hr, hlocks⟩ := id C0
  intro x1 s0 σ H locs ls hw hW hS hl
  unfold mmw_added_39 at hw
  refine lv_istore_n (lv' := [(2, .int s0), (0, .ref (ad 0)), (1, .int x1)]) hx hb dX8_added_39 rfl hl (by decide) rfl (fun ls hl => ?_)
  refine lv_aload_n hx hb dX8_added_40 rfl (lv_at hl 1 rfl) ?_
  refine mm_VV ⟨hx, hb, hml, hown, hts⟩ (mmt_next l _ hw) (cwV 0 hts (lw_V q1462 q1464 qs65 q120 q1465) rfl rfl rfl cd_X8_next ⟨by simp only [mmr_g_parse, mmr_next]; omega, by simp only [mmr_g_parse, mmr_next]; omega⟩) hW (mm_recv hW) hS rfl hl.1 rfl (Nat.le_of_ble_eq_true rfl) dX8_added_41 (fun σ5 H locs hw hW hS => ?_)
  refine lv_aload_n hx hb dX8_added_44 rfl (lv_at hl 1 rfl) ?_
  refine mm_VI ⟨hx, hb, hml, hown, hts⟩ (hG_term _ _ hw) (cwV 0 hts (lw_V q1510 q1512 qs76 q120 q1513) rfl rfl rfl cd_X8_term ⟨by simp only [mmr_g_parse]; omega, by simp only [mmr_g_parse]; omega⟩) hW (mm_recv hW) hS rfl hl.1 rfl (Nat.le_of_ble_eq_true rfl) dX8_added_45 (fun r7 σ6 H locs hw hW hS => ?_)
  refine lv_istore_n (lv' := [(3, .int r7), (2, .int s0), (0, .ref (ad 0)), (1, .int x1)]) hx hb dX8_added_48 rfl hl (by decide) rfl (fun ls hl => ?_)
  refine lv_iload_n hx hb dX8_added_49 rfl (lv_at hl 1 rfl) ?_
  refine lv_if_eq (tgt := 59) hx hb dX8_added_50 (by decide) (fun c8 => ?_) (fun c8 => ?_)
  · have hw := hw.1 c8
    refine lv_iload_n hx hb dX8_added_59 rfl (lv_at hl 3 rfl) ?_
    refine lv_iload_n hx hb dX8_added_60 rfl (lv_at hl 0 rfl) ?_
    refine lv_isub hx hb dX8_added_61 ?_
    exact mmk_added_62 hG_either hG_both hG_not hG_added hG_term hG_atom C0  hK5 (x1 - r7) σ6 _ _ _ hw hW hS (lv_sub hl [2] rfl)
  · have hw := hw.2 c8
    refine lv_iload_n hx hb dX8_added_53 rfl (lv_at hl 3 rfl) ?_
    refine lv_iload_n hx hb dX8_added_54 rfl (lv_at hl 0 rfl) ?_
    refine lv_iadd hx hb dX8_added_55 ?_
    refine lv_goto (tgt := 62) hx hb dX8_added_56 (by decide) ?_
    exact mmk_added_62 hG_either hG_both hG_not hG_added hG_term hG_atom C0  hK5 (x1 + r7) σ6 _ _ _ hw hW hS (lv_sub hl [2] rfl)
set_option maxHeartbeats 4000000 in
set_option maxRecDepth 100000 in
theorem mmk_added_23 {p : Program} {l : Launch} {e : Env} {s : State} {m : MethodId} {args : Array Value} {below : List Frame} {meth : Method} {c : Code} {d : Nat} {G : Nat → gg_S → (Int32 → gg_S → Prop) → Prop} {D : va_G} {cl : List vw_C} {E : ClassId × ClassId} {A : Nat → Prop} {ad : Nat → Nat} {Q : Int32 → gg_S → Prop} {K5 : Int32 → gg_S → Prop} (hG_either : ∀  (σ : gg_S) (Q : Int32 → gg_S → Prop), G 0 σ Q → Met l yX8_either (ws_ yX8_either cX8_either 3 (some .int)) (mmr_g_parse d) (va_Pc [.ref (ad 0)] (fun U => mm_W D cl E A ad σ U U.heap)) (va_Qi Q (fun u t => mm_W D cl E A ad u t t.heap) A) 0 0 A) (hG_both : ∀  (σ : gg_S) (Q : Int32 → gg_S → Prop), G 1 σ Q → Met l yX8_both (ws_ yX8_both cX8_both 3 (some .int)) (mmr_g_parse d) (va_Pc [.ref (ad 0)] (fun U => mm_W D cl E A ad σ U U.heap)) (va_Qi Q (fun u t => mm_W D cl E A ad u t t.heap) A) 0 0 A) (hG_not : ∀  (σ : gg_S) (Q : Int32 → gg_S → Prop), G 2 σ Q → Met l yX8_not (ws_ yX8_not cX8_not 4 (some .int)) (mmr_g_parse d) (va_Pc [.ref (ad 0)] (fun U => mm_W D cl E A ad σ U U.heap)) (va_Qi Q (fun u t => mm_W D cl E A ad u t t.heap) A) 0 0 A) (hG_added : ∀  (σ : gg_S) (Q : Int32 → gg_S → Prop), G 3 σ Q → Met l yX8_added (ws_ yX8_added cX8_added 4 (some .int)) (mmr_g_parse d) (va_Pc [.ref (ad 0)] (fun U => mm_W D cl E A ad σ U U.heap)) (va_Qi Q (fun u t => mm_W D cl E A ad u t t.heap) A) 0 0 A) (hG_term : ∀  (σ : gg_S) (Q : Int32 → gg_S → Prop), G 4 σ Q → Met l yX8_term (ws_ yX8_term cX8_term 2 (some .int)) (mmr_g_parse d) (va_Pc [.ref (ad 0)] (fun U => mm_W D cl E A ad σ U U.heap)) (va_Qi Q (fun u t => mm_W D cl E A ad u t t.heap) A) 0 0 A) (hG_atom : ∀  (σ : gg_S) (Q : Int32 → gg_S → Prop), G 5 σ Q → Met l yX8_atom (ws_ yX8_atom cX8_atom 2 (some .int)) (mmr_g_parse d) (va_Pc [.ref (ad 0)] (fun U => mm_W D cl E A ad σ U U.heap)) (va_Qi Q (fun u t => mm_W D cl E A ad u t t.heap) A) 0 0 A) (C0 : gg_C p s m args meth c RX8 cX8_added 4 (some .int)) (hK5 : ∀ (x1 : Int32) (σ : gg_S) (H : Heap) (locs : List Loc) (ls : Array Slot), K5 x1 σ → mm_W D cl E A ad σ s H → va_S A s.heap H locs → lv_has ls 4 [(0, .ref (ad 0)), (1, .int x1)] → W p l e (mmr_g_parse (d + 1)) s m args below meth c H locs 0 0 (MQ below (va_Qi Q (fun u t => mm_W D cl E A ad u t t.heap) A) args s 0 0 A) (F0 m 5 ls [])) :
    ∀ (x1 : Int32) (σ : gg_S) (H : Heap) (locs : List Loc) (ls : Array Slot), mmw_added_23 G Q K5 x1 σ → mm_W D cl E A ad σ s H → va_S A s.heap H locs → lv_has ls 4 [(0, .ref (ad 0)), (1, .int x1)] → W p l e (mmr_g_parse (d + 1)) s m args below meth c H locs 0 0 (MQ below (va_Qi Q (fun u t => mm_W D cl E A ad u t t.heap) A) args s 0 0 A) (F0 m 23 ls []) := by
  obtain ⟨hx, hb, hml, hown, hts, hr, hlocks⟩ := id C0
  intro x1 σ H locs ls hw hW hS hl
  unfold mmw_added_23 at hw
  refine lv_aload_n hx hb dX8_added_23 rfl (lv_at hl 0 rfl) ?_
  refine mm_getw hx hb hts hown hW q1295 dX8_added_24 ?_
  refine lv_ldc2 (own := RX8) (v := (43 : Int64)) hx hb hown (hts _ q1526) dX8_added_27 ?_
  refine W.lcmp hx hb dX8_added_30 ?_
  refine lv_if_ne (tgt := 38) hx hb dX8_added_31 (by decide) (fun c9 => ?_) (fun c9 => ?_)
  · have hw := hw.2 c9
    refine lv_iconst (v := (0 : Int32)) hx hb dX8_added_38 (by decide) ?_
    exact mmk_added_39 hG_either hG_both hG_not hG_added hG_term hG_atom C0  hK5 x1 (0 : Int32) σ _ _ _ hw hW hS (hl)
  · have hw := hw.1 c9
    refine lv_iconst (v := (1 : Int32)) hx hb dX8_added_34 (by decide) ?_
    refine lv_goto (tgt := 39) hx hb dX8_added_35 (by decide) ?_
    exact mmk_added_39 hG_either hG_both hG_not hG_added hG_term hG_atom C0  hK5 x1 (1 : Int32) σ _ _ _ hw hW hS (hl)
set_option maxHeartbeats 4000000 in
set_option maxRecDepth 100000 in
theorem mmk_added_5 {p : Program} {l : Launch} {e : Env} {s : State} {m : MethodId} {args : Array Value} {below : List Frame} {meth : Method} {c : Code} {d : Nat} {G : Nat → gg_S → (Int32 → gg_S → Prop) → Prop} {D : va_G} {cl : List vw_C} {E : ClassId × ClassId} {A : Nat → Prop} {ad : Nat → Nat} {Q : Int32 → gg_S → Prop}  (hG_either : ∀  (σ : gg_S) (Q : Int32 → gg_S → Prop), G 0 σ Q → Met l yX8_either (ws_ yX8_either cX8_either 3 (some .int)) (mmr_g_parse d) (va_Pc [.ref (ad 0)] (fun U => mm_W D cl E A ad σ U U.heap)) (va_Qi Q (fun u t => mm_W D cl E A ad u t t.heap) A) 0 0 A) (hG_both : ∀  (σ : gg_S) (Q : Int32 → gg_S → Prop), G 1 σ Q → Met l yX8_both (ws_ yX8_both cX8_both 3 (some .int)) (mmr_g_parse d) (va_Pc [.ref (ad 0)] (fun U => mm_W D cl E A ad σ U U.heap)) (va_Qi Q (fun u t => mm_W D cl E A ad u t t.heap) A) 0 0 A) (hG_not : ∀  (σ : gg_S) (Q : Int32 → gg_S → Prop), G 2 σ Q → Met l yX8_not (ws_ yX8_not cX8_not 4 (some .int)) (mmr_g_parse d) (va_Pc [.ref (ad 0)] (fun U => mm_W D cl E A ad σ U U.heap)) (va_Qi Q (fun u t => mm_W D cl E A ad u t t.heap) A) 0 0 A) (hG_added : ∀  (σ : gg_S) (Q : Int32 → gg_S → Prop), G 3 σ Q → Met l yX8_added (ws_ yX8_added cX8_added 4 (some .int)) (mmr_g_parse d) (va_Pc [.ref (ad 0)] (fun U => mm_W D cl E A ad σ U U.heap)) (va_Qi Q (fun u t => mm_W D cl E A ad u t t.heap) A) 0 0 A) (hG_term : ∀  (σ : gg_S) (Q : Int32 → gg_S → Prop), G 4 σ Q → Met l yX8_term (ws_ yX8_term cX8_term 2 (some .int)) (mmr_g_parse d) (va_Pc [.ref (ad 0)] (fun U => mm_W D cl E A ad σ U U.heap)) (va_Qi Q (fun u t => mm_W D cl E A ad u t t.heap) A) 0 0 A) (hG_atom : ∀  (σ : gg_S) (Q : Int32 → gg_S → Prop), G 5 σ Q → Met l yX8_atom (ws_ yX8_atom cX8_atom 2 (some .int)) (mmr_g_parse d) (va_Pc [.ref (ad 0)] (fun U => mm_W D cl E A ad σ U U.heap)) (va_Qi Q (fun u t => mm_W D cl E A ad u t t.heap) A) 0 0 A) (C0 : gg_C p s m args meth c RX8 cX8_added 4 (some .int))  :
    ∀ n : Nat, ∀ (x1 : Int32) (σ : gg_S) (H : Heap) (locs : List Loc) (ls : Array Slot), mmw_added_5 G Q n x1 σ → mm_W D cl E A ad σ s H → va_S A s.heap H locs → lv_has ls 4 [(0, .ref (ad 0)), (1, .int x1)] → W p l e (mmr_g_parse (d + 1)) s m args below meth c H locs 0 0 (MQ below (va_Qi Q (fun u t => mm_W D cl E A ad u t t.heap) A) args s 0 0 A) (F0 m 5 ls []) := by
  obtain ⟨hx, hb, hml, hown, hts, hr, hlocks⟩ := id C0
  intro n
  induction n with
  | zero =>
    intro x1 σ H locs ls hw hW hS hl
    exact absurd hw (by unfold mmw_added_5; exact id)
  | succ n ih =>
    intro x1 σ H locs ls hw hW hS hl
    unfold mmw_added_5 at hw
    refine lv_aload_n hx hb dX8_added_5 rfl (lv_at hl 0 rfl) ?_
    refine lv_bipush (v := (43 : Int32)) hx hb dX8_added_6 (by decide) ?_
    refine mm_VI ⟨hx, hb, hml, hown, hts⟩ (mmt_isSign l _ _ hw) (cwV 1 hts (lw_V q1518 q1520 qs78 q120 q1521) rfl rfl rfl cd_X8_isSign ⟨by simp only [mmr_g_parse, mmr_isSign]; omega, by simp only [mmr_g_parse, mmr_isSign]; omega⟩) hW (mm_recv hW) hS rfl hl.1 rfl (Nat.le_of_ble_eq_true rfl) dX8_added_8 (fun r4 σ3 H locs hw hW hS => ?_)
    obtain ⟨hz_r4, hw⟩ := hw
    refine lv_if_ne (tgt := 23) hx hb dX8_added_11 (by decide) (fun c13 => ?_) (fun c13 => ?_)
    · have hw := hw.2 c13
      exact mmk_added_23 hG_either hG_both hG_not hG_added hG_term hG_atom C0  (fun y0 τ H9 l9 s9 => ih y0 τ H9 l9 s9) x1 σ3 _ _ _ hw hW hS (hl)
    · have hw := hw.1 c13
      refine lv_aload_n hx hb dX8_added_14 rfl (lv_at hl 0 rfl) ?_
      refine lv_bipush (v := (45 : Int32)) hx hb dX8_added_15 (by decide) ?_
      refine mm_VI ⟨hx, hb, hml, hown, hts⟩ (mmt_isSign l _ _ hw) (cwV 1 hts (lw_V q1518 q1520 qs78 q120 q1521) rfl rfl rfl cd_X8_isSign ⟨by simp only [mmr_g_parse, mmr_isSign]; omega, by simp only [mmr_g_parse, mmr_isSign]; omega⟩) hW (mm_recv hW) hS rfl hl.1 rfl (Nat.le_of_ble_eq_true rfl) dX8_added_17 (fun r11 σ10 H locs hw hW hS => ?_)
      obtain ⟨hz_r11, hw⟩ := hw
      refine lv_if_eq (tgt := 66) hx hb dX8_added_20 (by decide) (fun c12 => ?_) (fun c12 => ?_)
      · have hw := hw.1 c12
        refine lv_iload_n hx hb dX8_added_66 rfl (lv_at hl 1 rfl) ?_
        exact gg_iret (mm_mv D cl E A ad) C0 hW hS hw dX8_added_67
      · have hw := hw.2 c12
        exact mmk_added_23 hG_either hG_both hG_not hG_added hG_term hG_atom C0  (fun y0 τ H9 l9 s9 => ih y0 τ H9 l9 s9) x1 σ10 _ _ _ hw hW hS (hl)
set_option maxHeartbeats 4000000 in
set_option maxRecDepth 100000 in
theorem mmt_added (l : Launch) {d : Nat} {G : Nat → gg_S → (Int32 → gg_S → Prop) → Prop} {D : va_G} {cl : List vw_C} {E : ClassId × ClassId} {A : Nat → Prop} {ad : Nat → Nat} (hG_either : ∀  (σ : gg_S) (Q : Int32 → gg_S → Prop), G 0 σ Q → Met l yX8_either (ws_ yX8_either cX8_either 3 (some .int)) (mmr_g_parse d) (va_Pc [.ref (ad 0)] (fun U => mm_W D cl E A ad σ U U.heap)) (va_Qi Q (fun u t => mm_W D cl E A ad u t t.heap) A) 0 0 A) (hG_both : ∀  (σ : gg_S) (Q : Int32 → gg_S → Prop), G 1 σ Q → Met l yX8_both (ws_ yX8_both cX8_both 3 (some .int)) (mmr_g_parse d) (va_Pc [.ref (ad 0)] (fun U => mm_W D cl E A ad σ U U.heap)) (va_Qi Q (fun u t => mm_W D cl E A ad u t t.heap) A) 0 0 A) (hG_not : ∀  (σ : gg_S) (Q : Int32 → gg_S → Prop), G 2 σ Q → Met l yX8_not (ws_ yX8_not cX8_not 4 (some .int)) (mmr_g_parse d) (va_Pc [.ref (ad 0)] (fun U => mm_W D cl E A ad σ U U.heap)) (va_Qi Q (fun u t => mm_W D cl E A ad u t t.heap) A) 0 0 A) (hG_added : ∀  (σ : gg_S) (Q : Int32 → gg_S → Prop), G 3 σ Q → Met l yX8_added (ws_ yX8_added cX8_added 4 (some .int)) (mmr_g_parse d) (va_Pc [.ref (ad 0)] (fun U => mm_W D cl E A ad σ U U.heap)) (va_Qi Q (fun u t => mm_W D cl E A ad u t t.heap) A) 0 0 A) (hG_term : ∀  (σ : gg_S) (Q : Int32 → gg_S → Prop), G 4 σ Q → Met l yX8_term (ws_ yX8_term cX8_term 2 (some .int)) (mmr_g_parse d) (va_Pc [.ref (ad 0)] (fun U => mm_W D cl E A ad σ U U.heap)) (va_Qi Q (fun u t => mm_W D cl E A ad u t t.heap) A) 0 0 A) (hG_atom : ∀  (σ : gg_S) (Q : Int32 → gg_S → Prop), G 5 σ Q → Met l yX8_atom (ws_ yX8_atom cX8_atom 2 (some .int)) (mmr_g_parse d) (va_Pc [.ref (ad 0)] (fun U => mm_W D cl E A ad σ U U.heap)) (va_Qi Q (fun u t => mm_W D cl E A ad u t t.heap) A) 0 0 A)  (σ : gg_S) {Q : Int32 → gg_S → Prop} (hw : mmw_added G σ Q) :
    Met l yX8_added (ws_ yX8_added cX8_added 4 (some .int)) (mmr_g_parse (d + 1)) (va_Pc [.ref (ad 0)] (fun U => mm_W D cl E A ad σ U U.heap)) (va_Qi Q (fun u t => mm_W D cl E A ad u t t.heap) A) 0 0 A := by
  refine gg_entry (W0 := fun s H => mm_W D cl E A ad σ s H) (by decide) (Nat.le_of_ble_eq_true rfl) ?_
  intro p e s m args below meth c C0 hW ls hl
  have C0 : gg_C p s m args meth c RX8 cX8_added 4 (some .int) := C0
  obtain ⟨hx, hb, hml, hown, hts, hr, hlocks⟩ := id C0
  have hl : lv_has ls 4 [(0, .ref (ad 0))] := hl
  have hS : va_S A s.heap s.heap [] := va_S.rf
  unfold mmw_added at hw
  refine lv_aload_n hx hb dX8_added_0 rfl (lv_at hl 0 rfl) ?_
  refine mm_VI ⟨hx, hb, hml, hown, hts⟩ (hG_term _ _ hw) (cwV 0 hts (lw_V q1510 q1512 qs76 q120 q1513) rfl rfl rfl cd_X8_term ⟨by simp only [mmr_g_parse]; omega, by simp only [mmr_g_parse]; omega⟩) hW (mm_recv hW) hS rfl hl.1 rfl (Nat.le_of_ble_eq_true rfl) dX8_added_1 (fun r2 σ1 H locs hw hW hS => ?_)
  refine lv_istore_n (lv' := [(1, .int r2), (0, .ref (ad 0))]) hx hb dX8_added_4 rfl hl (by decide) rfl (fun ls hl => ?_)
  obtain ⟨n9, hw⟩ := hw
  exact mmk_added_5 hG_either hG_both hG_not hG_added hG_term hG_atom C0   n9 r2 σ1 _ _ _ hw hW hS (lv_sub hl [1, 0] rfl)
/-! GleanersForGapsModel.term()I -/
def mmw_term_5 (G : Nat → gg_S → (Int32 → gg_S → Prop) → Prop) (Q : Int32 → gg_S → Prop)  : Nat → Int32 → gg_S → Prop
  | 0, _, _ => False
  | n + 1, x1, σ =>
    (mmw_isSign (42 : Int32) σ (fun r4 σ3 => (((r4 = 0) → Q x1 σ3) ∧ (¬ (r4 = 0) → (mmw_next σ3 (fun σ5 => (G 5 σ5 (fun r7 σ6 => mmw_term_5 G Q n (x1 * r7) σ6))))))))
def mmw_term (G : Nat → gg_S → (Int32 → gg_S → Prop) → Prop)  (σ : gg_S) (Q : Int32 → gg_S → Prop) : Prop :=
    (G 5 σ (fun r2 σ1 => ∃ k9, mmw_term_5 G Q k9 r2 σ1))
set_option maxHeartbeats 4000000 in
set_option maxRecDepth 100000 in
theorem mmk_term_5 {p : Program} {l : Launch} {e : Env} {s : State} {m : MethodId} {args : Array Value} {below : List Frame} {meth : Method} {c : Code} {d : Nat} {G : Nat → gg_S → (Int32 → gg_S → Prop) → Prop} {D : va_G} {cl : List vw_C} {E : ClassId × ClassId} {A : Nat → Prop} {ad : Nat → Nat} {Q : Int32 → gg_S → Prop}  (hG_either : ∀  (σ : gg_S) (Q : Int32 → gg_S → Prop), G 0 σ Q → Met l yX8_either (ws_ yX8_either cX8_either 3 (some .int)) (mmr_g_parse d) (va_Pc [.ref (ad 0)] (fun U => mm_W D cl E A ad σ U U.heap)) (va_Qi Q (fun u t => mm_W D cl E A ad u t t.heap) A) 0 0 A) (hG_both : ∀  (σ : gg_S) (Q : Int32 → gg_S → Prop), G 1 σ Q → Met l yX8_both (ws_ yX8_both cX8_both 3 (some .int)) (mmr_g_parse d) (va_Pc [.ref (ad 0)] (fun U => mm_W D cl E A ad σ U U.heap)) (va_Qi Q (fun u t => mm_W D cl E A ad u t t.heap) A) 0 0 A) (hG_not : ∀  (σ : gg_S) (Q : Int32 → gg_S → Prop), G 2 σ Q → Met l yX8_not (ws_ yX8_not cX8_not 4 (some .int)) (mmr_g_parse d) (va_Pc [.ref (ad 0)] (fun U => mm_W D cl E A ad σ U U.heap)) (va_Qi Q (fun u t => mm_W D cl E A ad u t t.heap) A) 0 0 A) (hG_added : ∀  (σ : gg_S) (Q : Int32 → gg_S → Prop), G 3 σ Q → Met l yX8_added (ws_ yX8_added cX8_added 4 (some .int)) (mmr_g_parse d) (va_Pc [.ref (ad 0)] (fun U => mm_W D cl E A ad σ U U.heap)) (va_Qi Q (fun u t => mm_W D cl E A ad u t t.heap) A) 0 0 A) (hG_term : ∀  (σ : gg_S) (Q : Int32 → gg_S → Prop), G 4 σ Q → Met l yX8_term (ws_ yX8_term cX8_term 2 (some .int)) (mmr_g_parse d) (va_Pc [.ref (ad 0)] (fun U => mm_W D cl E A ad σ U U.heap)) (va_Qi Q (fun u t => mm_W D cl E A ad u t t.heap) A) 0 0 A) (hG_atom : ∀  (σ : gg_S) (Q : Int32 → gg_S → Prop), G 5 σ Q → Met l yX8_atom (ws_ yX8_atom cX8_atom 2 (some .int)) (mmr_g_parse d) (va_Pc [.ref (ad 0)] (fun U => mm_W D cl E A ad σ U U.heap)) (va_Qi Q (fun u t => mm_W D cl E A ad u t t.heap) A) 0 0 A) (C0 : gg_C p s m args meth c RX8 cX8_term 2 (some .int))  :
    ∀ n : Nat, ∀ (x1 : Int32) (σ : gg_S) (H : Heap) (locs : List Loc) (ls : Array Slot), mmw_term_5 G Q n x1 σ → mm_W D cl E A ad σ s H → va_S A s.heap H locs → lv_has ls 2 [(0, .ref (ad 0)), (1, .int x1)] → W p l e (mmr_g_parse (d + 1)) s m args below meth c H locs 0 0 (MQ below (va_Qi Q (fun u t => mm_W D cl E A ad u t t.heap) A) args s 0 0 A) (F0 m 5 ls []) := by
  obtain ⟨hx, hb, hml, hown, hts, hr, hlocks⟩ := id C0
  intro n
  induction n with
  | zero =>
    intro x1 σ H locs ls hw hW hS hl
    exact absurd hw (by unfold mmw_term_5; exact id)
  | succ n ih =>
    intro x1 σ H locs ls hw hW hS hl
    unfold mmw_term_5 at hw
    refine lv_aload_n hx hb dX8_term_5 rfl (lv_at hl 0 rfl) ?_
    refine lv_bipush (v := (42 : Int32)) hx hb dX8_term_6 (by decide) ?_
    refine mm_VI ⟨hx, hb, hml, hown, hts⟩ (mmt_isSign l _ _ hw) (cwV 1 hts (lw_V q1518 q1520 qs78 q120 q1521) rfl rfl rfl cd_X8_isSign ⟨by simp only [mmr_g_parse, mmr_isSign]; omega, by simp only [mmr_g_parse, mmr_isSign]; omega⟩) hW (mm_recv hW) hS rfl hl.1 rfl (Nat.le_of_ble_eq_true rfl) dX8_term_8 (fun r4 σ3 H locs hw hW hS => ?_)
    obtain ⟨hz_r4, hw⟩ := hw
    refine lv_if_eq (tgt := 28) hx hb dX8_term_11 (by decide) (fun c8 => ?_) (fun c8 => ?_)
    · have hw := hw.1 c8
      refine lv_iload_n hx hb dX8_term_28 rfl (lv_at hl 1 rfl) ?_
      exact gg_iret (mm_mv D cl E A ad) C0 hW hS hw dX8_term_29
    · have hw := hw.2 c8
      refine lv_aload_n hx hb dX8_term_14 rfl (lv_at hl 0 rfl) ?_
      refine mm_VV ⟨hx, hb, hml, hown, hts⟩ (mmt_next l _ hw) (cwV 0 hts (lw_V q1462 q1464 qs65 q120 q1465) rfl rfl rfl cd_X8_next ⟨by simp only [mmr_g_parse, mmr_next]; omega, by simp only [mmr_g_parse, mmr_next]; omega⟩) hW (mm_recv hW) hS rfl hl.1 rfl (Nat.le_of_ble_eq_true rfl) dX8_term_15 (fun σ5 H locs hw hW hS => ?_)
      refine lv_iload_n hx hb dX8_term_18 rfl (lv_at hl 1 rfl) ?_
      refine lv_aload_n hx hb dX8_term_19 rfl (lv_at hl 0 rfl) ?_
      refine mm_VI ⟨hx, hb, hml, hown, hts⟩ (hG_atom _ _ hw) (cwV 0 hts (lw_V q1514 q1516 qs77 q120 q1517) rfl rfl rfl cd_X8_atom ⟨by simp only [mmr_g_parse]; omega, by simp only [mmr_g_parse]; omega⟩) hW (mm_recv hW) hS rfl hl.1 rfl (Nat.le_of_ble_eq_true rfl) dX8_term_20 (fun r7 σ6 H locs hw hW hS => ?_)
      refine lv_imul hx hb dX8_term_23 ?_
      refine lv_istore_n (lv' := [(1, .int (x1 * r7)), (0, .ref (ad 0))]) hx hb dX8_term_24 rfl hl (by decide) rfl (fun ls hl => ?_)
      refine lv_goto (tgt := 5) hx hb dX8_term_25 (by decide) ?_
      exact ih (x1 * r7) σ6 _ _ _ hw hW hS (lv_sub hl [1, 0] rfl)
set_option maxHeartbeats 4000000 in
set_option maxRecDepth 100000 in
theorem mmt_term (l : Launch) {d : Nat} {G : Nat → gg_S → (Int32 → gg_S → Prop) → Prop} {D : va_G} {cl : List vw_C} {E : ClassId × ClassId} {A : Nat → Prop} {ad : Nat → Nat} (hG_either : ∀  (σ : gg_S) (Q : Int32 → gg_S → Prop), G 0 σ Q → Met l yX8_either (ws_ yX8_either cX8_either 3 (some .int)) (mmr_g_parse d) (va_Pc [.ref (ad 0)] (fun U => mm_W D cl E A ad σ U U.heap)) (va_Qi Q (fun u t => mm_W D cl E A ad u t t.heap) A) 0 0 A) (hG_both : ∀  (σ : gg_S) (Q : Int32 → gg_S → Prop), G 1 σ Q → Met l yX8_both (ws_ yX8_both cX8_both 3 (some .int)) (mmr_g_parse d) (va_Pc [.ref (ad 0)] (fun U => mm_W D cl E A ad σ U U.heap)) (va_Qi Q (fun u t => mm_W D cl E A ad u t t.heap) A) 0 0 A) (hG_not : ∀  (σ : gg_S) (Q : Int32 → gg_S → Prop), G 2 σ Q → Met l yX8_not (ws_ yX8_not cX8_not 4 (some .int)) (mmr_g_parse d) (va_Pc [.ref (ad 0)] (fun U => mm_W D cl E A ad σ U U.heap)) (va_Qi Q (fun u t => mm_W D cl E A ad u t t.heap) A) 0 0 A) (hG_added : ∀  (σ : gg_S) (Q : Int32 → gg_S → Prop), G 3 σ Q → Met l yX8_added (ws_ yX8_added cX8_added 4 (some .int)) (mmr_g_parse d) (va_Pc [.ref (ad 0)] (fun U => mm_W D cl E A ad σ U U.heap)) (va_Qi Q (fun u t => mm_W D cl E A ad u t t.heap) A) 0 0 A) (hG_term : ∀  (σ : gg_S) (Q : Int32 → gg_S → Prop), G 4 σ Q → Met l yX8_term (ws_ yX8_term cX8_term 2 (some .int)) (mmr_g_parse d) (va_Pc [.ref (ad 0)] (fun U => mm_W D cl E A ad σ U U.heap)) (va_Qi Q (fun u t => mm_W D cl E A ad u t t.heap) A) 0 0 A) (hG_atom : ∀  (σ : gg_S) (Q : Int32 → gg_S → Prop), G 5 σ Q → Met l yX8_atom (ws_ yX8_atom cX8_atom 2 (some .int)) (mmr_g_parse d) (va_Pc [.ref (ad 0)] (fun U => mm_W D cl E A ad σ U U.heap)) (va_Qi Q (fun u t => mm_W D cl E A ad u t t.heap) A) 0 0 A)  (σ : gg_S) {Q : Int32 → gg_S → Prop} (hw : mmw_term G σ Q) :
    Met l yX8_term (ws_ yX8_term cX8_term 2 (some .int)) (mmr_g_parse (d + 1)) (va_Pc [.ref (ad 0)] (fun U => mm_W D cl E A ad σ U U.heap)) (va_Qi Q (fun u t => mm_W D cl E A ad u t t.heap) A) 0 0 A := by
  refine gg_entry (W0 := fun s H => mm_W D cl E A ad σ s H) (by decide) (Nat.le_of_ble_eq_true rfl) ?_
  intro p e s m args below meth c C0 hW ls hl
  have C0 : gg_C p s m args meth c RX8 cX8_term 2 (some .int) := C0
  obtain ⟨hx, hb, hml, hown, hts, hr, hlocks⟩ := id C0
  have hl : lv_has ls 2 [(0, .ref (ad 0))] := hl
  have hS : va_S A s.heap s.heap [] := va_S.rf
  unfold mmw_term at hw
  refine lv_aload_n hx hb dX8_term_0 rfl (lv_at hl 0 rfl) ?_
  refine mm_VI ⟨hx, hb, hml, hown, hts⟩ (hG_atom _ _ hw) (cwV 0 hts (lw_V q1514 q1516 qs77 q120 q1517) rfl rfl rfl cd_X8_atom ⟨by simp only [mmr_g_parse]; omega, by simp only [mmr_g_parse]; omega⟩) hW (mm_recv hW) hS rfl hl.1 rfl (Nat.le_of_ble_eq_true rfl) dX8_term_1 (fun r2 σ1 H locs hw hW hS => ?_)
  refine lv_istore_n (lv' := [(1, .int r2), (0, .ref (ad 0))]) hx hb dX8_term_4 rfl hl (by decide) rfl (fun ls hl => ?_)
  obtain ⟨n9, hw⟩ := hw
  exact mmk_term_5 hG_either hG_both hG_not hG_added hG_term hG_atom C0   n9 r2 σ1 _ _ _ hw hW hS (lv_sub hl [1, 0] rfl)
/-! GleanersForGapsModel.atom()I -/
def mmw_atom_157 (G : Nat → gg_S → (Int32 → gg_S → Prop) → Prop) (Q : Int32 → gg_S → Prop)  (x1 : Int32) (σ : gg_S) : Prop :=
    (mmw_fail σ (fun σ5 => Q x1 σ5))
def mmw_atom_123 (G : Nat → gg_S → (Int32 → gg_S → Prop) → Prop) (Q : Int32 → gg_S → Prop)  (x1 : Int32) (σ : gg_S) : Prop :=
    ((((gg_g σ 0 26) = 0) → ((((gg_g σ 0 22) = (1 : Int32)) → (mmw_name σ (fun r7 σ6 => ((((gg_g σ6 0 26) = 0) → (mmw_next σ6 (fun σ8 => Q r7 σ8))) ∧ (¬ ((gg_g σ6 0 26) = 0) → Q r7 σ6))))) ∧ (¬ ((gg_g σ 0 22) = (1 : Int32)) → mmw_atom_157 G Q x1 σ))) ∧ (¬ ((gg_g σ 0 26) = 0) → mmw_atom_157 G Q x1 σ))
def mmw_atom_71 (G : Nat → gg_S → (Int32 → gg_S → Prop) → Prop) (Q : Int32 → gg_S → Prop)  (x1 : Int32) (σ : gg_S) : Prop :=
    (∀ σ21 : gg_S, σ21 = gg_s σ 0 25 ((gg_g σ 0 25) - (1 : Int32)) → ((((gg_g σ21 0 26) = 0) → (mmw_next σ21 (fun σ22 => Q x1 σ22))) ∧ (¬ ((gg_g σ21 0 26) = 0) → Q x1 σ21)))
def mmw_atom (G : Nat → gg_S → (Int32 → gg_S → Prop) → Prop)  (σ : gg_S) (Q : Int32 → gg_S → Prop) : Prop :=
    (mmw_isSign (45 : Int32) σ (fun r2 σ1 => (((r2 = 0) → (mmw_isSign (40 : Int32) σ1 (fun r4 σ3 => (((r4 = 0) → ((((gg_g σ3 0 26) = 0) → ((((gg_g σ3 0 22) = (2 : Int32)) → (mmw_next σ3 (fun σ12 => Q ((σ3.2).toInt32) σ12))) ∧ (¬ ((gg_g σ3 0 22) = (2 : Int32)) → mmw_atom_123 G Q (0 : Int32) σ3))) ∧ (¬ ((gg_g σ3 0 26) = 0) → mmw_atom_123 G Q (0 : Int32) σ3))) ∧ (¬ (r4 = 0) → (mmw_opens σ3 (fun r16 σ15 => (((r16 = 0) → Q (0 : Int32) σ15) ∧ (¬ (r16 = 0) → (G 0 σ15 (fun r18 σ17 => (mmw_isSign (41 : Int32) σ17 (fun r20 σ19 => (((r20 = 0) → (mmw_fail σ19 (fun σ24 => mmw_atom_71 G Q r18 σ24))) ∧ (¬ (r20 = 0) → mmw_atom_71 G Q r18 σ19))))))))))))))) ∧ (¬ (r2 = 0) → (mmw_opens σ1 (fun r29 σ28 => (((r29 = 0) → Q (0 : Int32) σ28) ∧ (¬ (r29 = 0) → (G 5 σ28 (fun r31 σ30 => (∀ σ32 : gg_S, σ32 = gg_s σ30 0 25 ((gg_g σ30 0 25) - (1 : Int32)) → Q (-r31) σ32)))))))))))
set_option maxHeartbeats 4000000 in
set_option maxRecDepth 100000 in
theorem mmk_atom_157 {p : Program} {l : Launch} {e : Env} {s : State} {m : MethodId} {args : Array Value} {below : List Frame} {meth : Method} {c : Code} {d : Nat} {G : Nat → gg_S → (Int32 → gg_S → Prop) → Prop} {D : va_G} {cl : List vw_C} {E : ClassId × ClassId} {A : Nat → Prop} {ad : Nat → Nat} {Q : Int32 → gg_S → Prop}  (hG_either : ∀  (σ : gg_S) (Q : Int32 → gg_S → Prop), G 0 σ Q → Met l yX8_either (ws_ yX8_either cX8_either 3 (some .int)) (mmr_g_parse d) (va_Pc [.ref (ad 0)] (fun U => mm_W D cl E A ad σ U U.heap)) (va_Qi Q (fun u t => mm_W D cl E A ad u t t.heap) A) 0 0 A) (hG_both : ∀  (σ : gg_S) (Q : Int32 → gg_S → Prop), G 1 σ Q → Met l yX8_both (ws_ yX8_both cX8_both 3 (some .int)) (mmr_g_parse d) (va_Pc [.ref (ad 0)] (fun U => mm_W D cl E A ad σ U U.heap)) (va_Qi Q (fun u t => mm_W D cl E A ad u t t.heap) A) 0 0 A) (hG_not : ∀  (σ : gg_S) (Q : Int32 → gg_S → Prop), G 2 σ Q → Met l yX8_not (ws_ yX8_not cX8_not 4 (some .int)) (mmr_g_parse d) (va_Pc [.ref (ad 0)] (fun U => mm_W D cl E A ad σ U U.heap)) (va_Qi Q (fun u t => mm_W D cl E A ad u t t.heap) A) 0 0 A) (hG_added : ∀  (σ : gg_S) (Q : Int32 → gg_S → Prop), G 3 σ Q → Met l yX8_added (ws_ yX8_added cX8_added 4 (some .int)) (mmr_g_parse d) (va_Pc [.ref (ad 0)] (fun U => mm_W D cl E A ad σ U U.heap)) (va_Qi Q (fun u t => mm_W D cl E A ad u t t.heap) A) 0 0 A) (hG_term : ∀  (σ : gg_S) (Q : Int32 → gg_S → Prop), G 4 σ Q → Met l yX8_term (ws_ yX8_term cX8_term 2 (some .int)) (mmr_g_parse d) (va_Pc [.ref (ad 0)] (fun U => mm_W D cl E A ad σ U U.heap)) (va_Qi Q (fun u t => mm_W D cl E A ad u t t.heap) A) 0 0 A) (hG_atom : ∀  (σ : gg_S) (Q : Int32 → gg_S → Prop), G 5 σ Q → Met l yX8_atom (ws_ yX8_atom cX8_atom 2 (some .int)) (mmr_g_parse d) (va_Pc [.ref (ad 0)] (fun U => mm_W D cl E A ad σ U U.heap)) (va_Qi Q (fun u t => mm_W D cl E A ad u t t.heap) A) 0 0 A) (C0 : gg_C p s m args meth c RX8 cX8_atom 2 (some .int))  :
    ∀ (x1 : Int32) (σ : gg_S) (H : Heap) (locs : List Loc) (ls : Array Slot), mmw_atom_157 G Q x1 σ → mm_W D cl E A ad σ s H → va_S A s.heap H locs → lv_has ls 2 [(0, .ref (ad 0)), (1, .int x1)] → W p l e (mmr_g_parse (d + 1)) s m args below meth c H locs 0 0 (MQ below (va_Qi Q (fun u t => mm_W D cl E A ad u t t.heap) A) args s 0 0 A) (F0 m 157 ls []) := by
  obtain ⟨hx, hb, hml, hown, hts, hr, hlocks⟩ := id C0
  intro x1 σ H locs ls hw hW hS hl
  unfold mmw_atom_157 at hw
  refine lv_aload_n hx hb dX8_atom_157 rfl (lv_at hl 0 rfl) ?_
  refine mm_VV ⟨hx, hb, hml, hown, hts⟩ (mmt_fail l _ hw) (cwV 0 hts (lw_V q1486 q1488 qs70 q120 q1489) rfl rfl rfl cd_X8_fail ⟨by simp only [mmr_g_parse, mmr_fail]; omega, by simp only [mmr_g_parse, mmr_fail]; omega⟩) hW (mm_recv hW) hS rfl hl.1 rfl (Nat.le_of_ble_eq_true rfl) dX8_atom_158 (fun σ5 H locs hw hW hS => ?_)
  refine lv_iload_n hx hb dX8_atom_161 rfl (lv_at hl 1 rfl) ?_
  exact gg_iret (mm_mv D cl E A ad) C0 hW hS hw dX8_atom_162
set_option maxHeartbeats 4000000 in
set_option maxRecDepth 100000 in
theorem mmk_atom_123 {p : Program} {l : Launch} {e : Env} {s : State} {m : MethodId} {args : Array Value} {below : List Frame} {meth : Method} {c : Code} {d : Nat} {G : Nat → gg_S → (Int32 → gg_S → Prop) → Prop} {D : va_G} {cl : List vw_C} {E : ClassId × ClassId} {A : Nat → Prop} {ad : Nat → Nat} {Q : Int32 → gg_S → Prop}  (hG_either : ∀  (σ : gg_S) (Q : Int32 → gg_S → Prop), G 0 σ Q → Met l yX8_either (ws_ yX8_either cX8_either 3 (some .int)) (mmr_g_parse d) (va_Pc [.ref (ad 0)] (fun U => mm_W D cl E A ad σ U U.heap)) (va_Qi Q (fun u t => mm_W D cl E A ad u t t.heap) A) 0 0 A) (hG_both : ∀  (σ : gg_S) (Q : Int32 → gg_S → Prop), G 1 σ Q → Met l yX8_both (ws_ yX8_both cX8_both 3 (some .int)) (mmr_g_parse d) (va_Pc [.ref (ad 0)] (fun U => mm_W D cl E A ad σ U U.heap)) (va_Qi Q (fun u t => mm_W D cl E A ad u t t.heap) A) 0 0 A) (hG_not : ∀  (σ : gg_S) (Q : Int32 → gg_S → Prop), G 2 σ Q → Met l yX8_not (ws_ yX8_not cX8_not 4 (some .int)) (mmr_g_parse d) (va_Pc [.ref (ad 0)] (fun U => mm_W D cl E A ad σ U U.heap)) (va_Qi Q (fun u t => mm_W D cl E A ad u t t.heap) A) 0 0 A) (hG_added : ∀  (σ : gg_S) (Q : Int32 → gg_S → Prop), G 3 σ Q → Met l yX8_added (ws_ yX8_added cX8_added 4 (some .int)) (mmr_g_parse d) (va_Pc [.ref (ad 0)] (fun U => mm_W D cl E A ad σ U U.heap)) (va_Qi Q (fun u t => mm_W D cl E A ad u t t.heap) A) 0 0 A) (hG_term : ∀  (σ : gg_S) (Q : Int32 → gg_S → Prop), G 4 σ Q → Met l yX8_term (ws_ yX8_term cX8_term 2 (some .int)) (mmr_g_parse d) (va_Pc [.ref (ad 0)] (fun U => mm_W D cl E A ad σ U U.heap)) (va_Qi Q (fun u t => mm_W D cl E A ad u t t.heap) A) 0 0 A) (hG_atom : ∀  (σ : gg_S) (Q : Int32 → gg_S → Prop), G 5 σ Q → Met l yX8_atom (ws_ yX8_atom cX8_atom 2 (some .int)) (mmr_g_parse d) (va_Pc [.ref (ad 0)] (fun U => mm_W D cl E A ad σ U U.heap)) (va_Qi Q (fun u t => mm_W D cl E A ad u t t.heap) A) 0 0 A) (C0 : gg_C p s m args meth c RX8 cX8_atom 2 (some .int))  :
    ∀ (x1 : Int32) (σ : gg_S) (H : Heap) (locs : List Loc) (ls : Array Slot), mmw_atom_123 G Q x1 σ → mm_W D cl E A ad σ s H → va_S A s.heap H locs → lv_has ls 2 [(0, .ref (ad 0)), (1, .int x1)] → W p l e (mmr_g_parse (d + 1)) s m args below meth c H locs 0 0 (MQ below (va_Qi Q (fun u t => mm_W D cl E A ad u t t.heap) A) args s 0 0 A) (F0 m 123 ls []) := by
  obtain ⟨hx, hb, hml, hown, hts, hr, hlocks⟩ := id C0
  intro x1 σ H locs ls hw hW hS hl
  unfold mmw_atom_123 at hw
  refine lv_aload_n hx hb dX8_atom_123 rfl (lv_at hl 0 rfl) ?_
  refine mm_geti hx hb hts hown hW 26 (by decide) q1297 dX8_atom_124 ?_
  refine lv_if_ne (tgt := 157) hx hb dX8_atom_127 (by decide) (fun c11 => ?_) (fun c11 => ?_)
  · have hw := hw.2 c11
    exact mmk_atom_157 hG_either hG_both hG_not hG_added hG_term hG_atom C0   x1 σ _ _ _ hw hW hS (hl)
  · have hw := hw.1 c11
    refine lv_aload_n hx hb dX8_atom_130 rfl (lv_at hl 0 rfl) ?_
    refine mm_geti hx hb hts hown hW 22 (by decide) q1293 dX8_atom_131 ?_
    refine lv_iconst (v := (1 : Int32)) hx hb dX8_atom_134 (by decide) ?_
    refine lv_icmp_ne (tgt := 157) hx hb dX8_atom_135 (by decide) (fun c10 => ?_) (fun c10 => ?_)
    · have hw := hw.2 c10
      exact mmk_atom_157 hG_either hG_both hG_not hG_added hG_term hG_atom C0   x1 σ _ _ _ hw hW hS (hl)
    · have hw := hw.1 c10
      refine lv_aload_n hx hb dX8_atom_138 rfl (lv_at hl 0 rfl) ?_
      refine mm_VI ⟨hx, hb, hml, hown, hts⟩ (mmt_name l _ hw) (cwV 0 hts (lw_V q1522 q1524 qs79 q120 q1525) rfl rfl rfl cd_X8_name ⟨by simp only [mmr_g_parse, mmr_name]; omega, by simp only [mmr_g_parse, mmr_name]; omega⟩) hW (mm_recv hW) hS rfl hl.1 rfl (Nat.le_of_ble_eq_true rfl) dX8_atom_139 (fun r7 σ6 H locs hw hW hS => ?_)
      refine lv_istore_n (lv' := [(1, .int r7), (0, .ref (ad 0))]) hx hb dX8_atom_142 rfl hl (by decide) rfl (fun ls hl => ?_)
      refine lv_aload_n hx hb dX8_atom_143 rfl (lv_at hl 1 rfl) ?_
      refine mm_geti hx hb hts hown hW 26 (by decide) q1297 dX8_atom_144 ?_
      refine lv_if_ne (tgt := 161) hx hb dX8_atom_147 (by decide) (fun c9 => ?_) (fun c9 => ?_)
      · have hw := hw.2 c9
        refine lv_iload_n hx hb dX8_atom_161 rfl (lv_at hl 0 rfl) ?_
        exact gg_iret (mm_mv D cl E A ad) C0 hW hS hw dX8_atom_162
      · have hw := hw.1 c9
        refine lv_aload_n hx hb dX8_atom_150 rfl (lv_at hl 1 rfl) ?_
        refine mm_VV ⟨hx, hb, hml, hown, hts⟩ (mmt_next l _ hw) (cwV 0 hts (lw_V q1462 q1464 qs65 q120 q1465) rfl rfl rfl cd_X8_next ⟨by simp only [mmr_g_parse, mmr_next]; omega, by simp only [mmr_g_parse, mmr_next]; omega⟩) hW (mm_recv hW) hS rfl hl.1 rfl (Nat.le_of_ble_eq_true rfl) dX8_atom_151 (fun σ8 H locs hw hW hS => ?_)
        refine lv_goto (tgt := 161) hx hb dX8_atom_154 (by decide) ?_
        refine lv_iload_n hx hb dX8_atom_161 rfl (lv_at hl 0 rfl) ?_
        exact gg_iret (mm_mv D cl E A ad) C0 hW hS hw dX8_atom_162
set_option maxHeartbeats 4000000 in
set_option maxRecDepth 100000 in
theorem mmk_atom_71 {p : Program} {l : Launch} {e : Env} {s : State} {m : MethodId} {args : Array Value} {below : List Frame} {meth : Method} {c : Code} {d : Nat} {G : Nat → gg_S → (Int32 → gg_S → Prop) → Prop} {D : va_G} {cl : List vw_C} {E : ClassId × ClassId} {A : Nat → Prop} {ad : Nat → Nat} {Q : Int32 → gg_S → Prop}  (hG_either : ∀  (σ : gg_S) (Q : Int32 → gg_S → Prop), G 0 σ Q → Met l yX8_either (ws_ yX8_either cX8_either 3 (some .int)) (mmr_g_parse d) (va_Pc [.ref (ad 0)] (fun U => mm_W D cl E A ad σ U U.heap)) (va_Qi Q (fun u t => mm_W D cl E A ad u t t.heap) A) 0 0 A) (hG_both : ∀  (σ : gg_S) (Q : Int32 → gg_S → Prop), G 1 σ Q → Met l yX8_both (ws_ yX8_both cX8_both 3 (some .int)) (mmr_g_parse d) (va_Pc [.ref (ad 0)] (fun U => mm_W D cl E A ad σ U U.heap)) (va_Qi Q (fun u t => mm_W D cl E A ad u t t.heap) A) 0 0 A) (hG_not : ∀  (σ : gg_S) (Q : Int32 → gg_S → Prop), G 2 σ Q → Met l yX8_not (ws_ yX8_not cX8_not 4 (some .int)) (mmr_g_parse d) (va_Pc [.ref (ad 0)] (fun U => mm_W D cl E A ad σ U U.heap)) (va_Qi Q (fun u t => mm_W D cl E A ad u t t.heap) A) 0 0 A) (hG_added : ∀  (σ : gg_S) (Q : Int32 → gg_S → Prop), G 3 σ Q → Met l yX8_added (ws_ yX8_added cX8_added 4 (some .int)) (mmr_g_parse d) (va_Pc [.ref (ad 0)] (fun U => mm_W D cl E A ad σ U U.heap)) (va_Qi Q (fun u t => mm_W D cl E A ad u t t.heap) A) 0 0 A) (hG_term : ∀  (σ : gg_S) (Q : Int32 → gg_S → Prop), G 4 σ Q → Met l yX8_term (ws_ yX8_term cX8_term 2 (some .int)) (mmr_g_parse d) (va_Pc [.ref (ad 0)] (fun U => mm_W D cl E A ad σ U U.heap)) (va_Qi Q (fun u t => mm_W D cl E A ad u t t.heap) A) 0 0 A) (hG_atom : ∀  (σ : gg_S) (Q : Int32 → gg_S → Prop), G 5 σ Q → Met l yX8_atom (ws_ yX8_atom cX8_atom 2 (some .int)) (mmr_g_parse d) (va_Pc [.ref (ad 0)] (fun U => mm_W D cl E A ad σ U U.heap)) (va_Qi Q (fun u t => mm_W D cl E A ad u t t.heap) A) 0 0 A) (C0 : gg_C p s m args meth c RX8 cX8_atom 2 (some .int))  :
    ∀ (x1 : Int32) (σ : gg_S) (H : Heap) (locs : List Loc) (ls : Array Slot), mmw_atom_71 G Q x1 σ → mm_W D cl E A ad σ s H → va_S A s.heap H locs → lv_has ls 2 [(0, .ref (ad 0)), (1, .int x1)] → W p l e (mmr_g_parse (d + 1)) s m args below meth c H locs 0 0 (MQ below (va_Qi Q (fun u t => mm_W D cl E A ad u t t.heap) A) args s 0 0 A) (F0 m 71 ls []) := by
  obtain ⟨hx, hb, hml, hown, hts, hr, hlocks⟩ := id C0
  intro x1 σ H locs ls hw hW hS hl
  unfold mmw_atom_71 at hw
  refine lv_aload_n hx hb dX8_atom_71 rfl (lv_at hl 0 rfl) ?_
  refine lv_dup hx hb dX8_atom_72 rfl ?_
  refine mm_geti hx hb hts hown hW 25 (by decide) q1296 dX8_atom_73 ?_
  refine lv_iconst (v := (1 : Int32)) hx hb dX8_atom_76 (by decide) ?_
  refine lv_isub hx hb dX8_atom_77 ?_
  refine mm_puti hx hb hts hown hW hS 25 (by decide) q1296 rfl rfl rfl dX8_atom_78 (fun H locs hW hS => ?_)
  obtain ⟨σ21, eσ21⟩ : ∃ z, z = gg_s σ 0 25 ((gg_g σ 0 25) - (1 : Int32)) := ⟨_, rfl⟩
  rw [← eσ21] at hW
  have hw := hw σ21 eσ21
  refine lv_aload_n hx hb dX8_atom_81 rfl (lv_at hl 0 rfl) ?_
  refine mm_geti hx hb hts hown hW 26 (by decide) q1297 dX8_atom_82 ?_
  refine lv_if_ne (tgt := 161) hx hb dX8_atom_85 (by decide) (fun c23 => ?_) (fun c23 => ?_)
  · have hw := hw.2 c23
    refine lv_iload_n hx hb dX8_atom_161 rfl (lv_at hl 1 rfl) ?_
    exact gg_iret (mm_mv D cl E A ad) C0 hW hS hw dX8_atom_162
  · have hw := hw.1 c23
    refine lv_aload_n hx hb dX8_atom_88 rfl (lv_at hl 0 rfl) ?_
    refine mm_VV ⟨hx, hb, hml, hown, hts⟩ (mmt_next l _ hw) (cwV 0 hts (lw_V q1462 q1464 qs65 q120 q1465) rfl rfl rfl cd_X8_next ⟨by simp only [mmr_g_parse, mmr_next]; omega, by simp only [mmr_g_parse, mmr_next]; omega⟩) hW (mm_recv hW) hS rfl hl.1 rfl (Nat.le_of_ble_eq_true rfl) dX8_atom_89 (fun σ22 H locs hw hW hS => ?_)
    refine lv_goto (tgt := 161) hx hb dX8_atom_92 (by decide) ?_
    refine lv_iload_n hx hb dX8_atom_161 rfl (lv_at hl 1 rfl) ?_
    exact gg_iret (mm_mv D cl E A ad) C0 hW hS hw dX8_atom_162
set_option maxHeartbeats 4000000 in
set_option maxRecDepth 100000 in
theorem mmt_atom (l : Launch) {d : Nat} {G : Nat → gg_S → (Int32 → gg_S → Prop) → Prop} {D : va_G} {cl : List vw_C} {E : ClassId × ClassId} {A : Nat → Prop} {ad : Nat → Nat} (hG_either : ∀  (σ : gg_S) (Q : Int32 → gg_S → Prop), G 0 σ Q → Met l yX8_either (ws_ yX8_either cX8_either 3 (some .int)) (mmr_g_parse d) (va_Pc [.ref (ad 0)] (fun U => mm_W D cl E A ad σ U U.heap)) (va_Qi Q (fun u t => mm_W D cl E A ad u t t.heap) A) 0 0 A) (hG_both : ∀  (σ : gg_S) (Q : Int32 → gg_S → Prop), G 1 σ Q → Met l yX8_both (ws_ yX8_both cX8_both 3 (some .int)) (mmr_g_parse d) (va_Pc [.ref (ad 0)] (fun U => mm_W D cl E A ad σ U U.heap)) (va_Qi Q (fun u t => mm_W D cl E A ad u t t.heap) A) 0 0 A) (hG_not : ∀  (σ : gg_S) (Q : Int32 → gg_S → Prop), G 2 σ Q → Met l yX8_not (ws_ yX8_not cX8_not 4 (some .int)) (mmr_g_parse d) (va_Pc [.ref (ad 0)] (fun U => mm_W D cl E A ad σ U U.heap)) (va_Qi Q (fun u t => mm_W D cl E A ad u t t.heap) A) 0 0 A) (hG_added : ∀  (σ : gg_S) (Q : Int32 → gg_S → Prop), G 3 σ Q → Met l yX8_added (ws_ yX8_added cX8_added 4 (some .int)) (mmr_g_parse d) (va_Pc [.ref (ad 0)] (fun U => mm_W D cl E A ad σ U U.heap)) (va_Qi Q (fun u t => mm_W D cl E A ad u t t.heap) A) 0 0 A) (hG_term : ∀  (σ : gg_S) (Q : Int32 → gg_S → Prop), G 4 σ Q → Met l yX8_term (ws_ yX8_term cX8_term 2 (some .int)) (mmr_g_parse d) (va_Pc [.ref (ad 0)] (fun U => mm_W D cl E A ad σ U U.heap)) (va_Qi Q (fun u t => mm_W D cl E A ad u t t.heap) A) 0 0 A) (hG_atom : ∀  (σ : gg_S) (Q : Int32 → gg_S → Prop), G 5 σ Q → Met l yX8_atom (ws_ yX8_atom cX8_atom 2 (some .int)) (mmr_g_parse d) (va_Pc [.ref (ad 0)] (fun U => mm_W D cl E A ad σ U U.heap)) (va_Qi Q (fun u t => mm_W D cl E A ad u t t.heap) A) 0 0 A)  (σ : gg_S) {Q : Int32 → gg_S → Prop} (hw : mmw_atom G σ Q) :
    Met l yX8_atom (ws_ yX8_atom cX8_atom 2 (some .int)) (mmr_g_parse (d + 1)) (va_Pc [.ref (ad 0)] (fun U => mm_W D cl E A ad σ U U.heap)) (va_Qi Q (fun u t => mm_W D cl E A ad u t t.heap) A) 0 0 A := by
  refine gg_entry (W0 := fun s H => mm_W D cl E A ad σ s H) (by decide) (Nat.le_of_ble_eq_true rfl) ?_
  intro p e s m args below meth c C0 hW ls hl
  have C0 : gg_C p s m args meth c RX8 cX8_atom 2 (some .int) := C0
  obtain ⟨hx, hb, hml, hown, hts, hr, hlocks⟩ := id C0
  have hl : lv_has ls 2 [(0, .ref (ad 0))] := hl
  have hS : va_S A s.heap s.heap [] := va_S.rf
  unfold mmw_atom at hw
  refine lv_iconst (v := (0 : Int32)) hx hb dX8_atom_0 (by decide) ?_
  refine lv_istore_n (lv' := [(1, .int (0 : Int32)), (0, .ref (ad 0))]) hx hb dX8_atom_1 rfl hl (by decide) rfl (fun ls hl => ?_)
  refine lv_aload_n hx hb dX8_atom_2 rfl (lv_at hl 1 rfl) ?_
  refine lv_bipush (v := (45 : Int32)) hx hb dX8_atom_3 (by decide) ?_
  refine mm_VI ⟨hx, hb, hml, hown, hts⟩ (mmt_isSign l _ _ hw) (cwV 1 hts (lw_V q1518 q1520 qs78 q120 q1521) rfl rfl rfl cd_X8_isSign ⟨by simp only [mmr_g_parse, mmr_isSign]; omega, by simp only [mmr_g_parse, mmr_isSign]; omega⟩) hW (mm_recv hW) hS rfl hl.1 rfl (Nat.le_of_ble_eq_true rfl) dX8_atom_5 (fun r2 σ1 H locs hw hW hS => ?_)
  obtain ⟨hz_r2, hw⟩ := hw
  refine lv_if_eq (tgt := 37) hx hb dX8_atom_8 (by decide) (fun c34 => ?_) (fun c34 => ?_)
  · have hw := hw.1 c34
    refine lv_aload_n hx hb dX8_atom_37 rfl (lv_at hl 1 rfl) ?_
    refine lv_bipush (v := (40 : Int32)) hx hb dX8_atom_38 (by decide) ?_
    refine mm_VI ⟨hx, hb, hml, hown, hts⟩ (mmt_isSign l _ _ hw) (cwV 1 hts (lw_V q1518 q1520 qs78 q120 q1521) rfl rfl rfl cd_X8_isSign ⟨by simp only [mmr_g_parse, mmr_isSign]; omega, by simp only [mmr_g_parse, mmr_isSign]; omega⟩) hW (mm_recv hW) hS rfl hl.1 rfl (Nat.le_of_ble_eq_true rfl) dX8_atom_40 (fun r4 σ3 H locs hw hW hS => ?_)
    obtain ⟨hz_r4, hw⟩ := hw
    refine lv_if_eq (tgt := 95) hx hb dX8_atom_43 (by decide) (fun c27 => ?_) (fun c27 => ?_)
    · have hw := hw.1 c27
      refine lv_aload_n hx hb dX8_atom_95 rfl (lv_at hl 1 rfl) ?_
      refine mm_geti hx hb hts hown hW 26 (by decide) q1297 dX8_atom_96 ?_
      refine lv_if_ne (tgt := 123) hx hb dX8_atom_99 (by decide) (fun c14 => ?_) (fun c14 => ?_)
      · have hw := hw.2 c14
        exact mmk_atom_123 hG_either hG_both hG_not hG_added hG_term hG_atom C0   (0 : Int32) σ3 _ _ _ hw hW hS (lv_sub hl [1, 0] rfl)
      · have hw := hw.1 c14
        refine lv_aload_n hx hb dX8_atom_102 rfl (lv_at hl 1 rfl) ?_
        refine mm_geti hx hb hts hown hW 22 (by decide) q1293 dX8_atom_103 ?_
        refine lv_iconst (v := (2 : Int32)) hx hb dX8_atom_106 (by decide) ?_
        refine lv_icmp_ne (tgt := 123) hx hb dX8_atom_107 (by decide) (fun c13 => ?_) (fun c13 => ?_)
        · have hw := hw.2 c13
          exact mmk_atom_123 hG_either hG_both hG_not hG_added hG_term hG_atom C0   (0 : Int32) σ3 _ _ _ hw hW hS (lv_sub hl [1, 0] rfl)
        · have hw := hw.1 c13
          refine lv_aload_n hx hb dX8_atom_110 rfl (lv_at hl 1 rfl) ?_
          refine mm_getw hx hb hts hown hW q1295 dX8_atom_111 ?_
          refine lv_l2i (v := (σ3.2).toInt32) hx hb dX8_atom_114 rfl ?_
          refine lv_istore_n (lv' := [(1, .int (σ3.2).toInt32), (0, .ref (ad 0))]) hx hb dX8_atom_115 rfl hl (by decide) rfl (fun ls hl => ?_)
          refine lv_aload_n hx hb dX8_atom_116 rfl (lv_at hl 1 rfl) ?_
          refine mm_VV ⟨hx, hb, hml, hown, hts⟩ (mmt_next l _ hw) (cwV 0 hts (lw_V q1462 q1464 qs65 q120 q1465) rfl rfl rfl cd_X8_next ⟨by simp only [mmr_g_parse, mmr_next]; omega, by simp only [mmr_g_parse, mmr_next]; omega⟩) hW (mm_recv hW) hS rfl hl.1 rfl (Nat.le_of_ble_eq_true rfl) dX8_atom_117 (fun σ12 H locs hw hW hS => ?_)
          refine lv_goto (tgt := 161) hx hb dX8_atom_120 (by decide) ?_
          refine lv_iload_n hx hb dX8_atom_161 rfl (lv_at hl 0 rfl) ?_
          exact gg_iret (mm_mv D cl E A ad) C0 hW hS hw dX8_atom_162
    · have hw := hw.2 c27
      refine lv_aload_n hx hb dX8_atom_46 rfl (lv_at hl 1 rfl) ?_
      refine mm_VI ⟨hx, hb, hml, hown, hts⟩ (mmt_opens l _ hw) (cwV 0 hts (lw_V q1502 q1504 qs74 q120 q1505) rfl rfl rfl cd_X8_opens ⟨by simp only [mmr_g_parse, mmr_opens]; omega, by simp only [mmr_g_parse, mmr_opens]; omega⟩) hW (mm_recv hW) hS rfl hl.1 rfl (Nat.le_of_ble_eq_true rfl) dX8_atom_47 (fun r16 σ15 H locs hw hW hS => ?_)
      obtain ⟨hz_r16, hw⟩ := hw
      refine lv_if_eq (tgt := 161) hx hb dX8_atom_50 (by decide) (fun c26 => ?_) (fun c26 => ?_)
      · have hw := hw.1 c26
        refine lv_iload_n hx hb dX8_atom_161 rfl (lv_at hl 0 rfl) ?_
        exact gg_iret (mm_mv D cl E A ad) C0 hW hS hw dX8_atom_162
      · have hw := hw.2 c26
        refine lv_aload_n hx hb dX8_atom_53 rfl (lv_at hl 1 rfl) ?_
        refine mm_VI ⟨hx, hb, hml, hown, hts⟩ (hG_either _ _ hw) (cwV 0 hts (lw_V q1490 q1492 qs71 q120 q1493) rfl rfl rfl cd_X8_either ⟨by simp only [mmr_g_parse]; omega, by simp only [mmr_g_parse]; omega⟩) hW (mm_recv hW) hS rfl hl.1 rfl (Nat.le_of_ble_eq_true rfl) dX8_atom_54 (fun r18 σ17 H locs hw hW hS => ?_)
        refine lv_istore_n (lv' := [(1, .int r18), (0, .ref (ad 0))]) hx hb dX8_atom_57 rfl hl (by decide) rfl (fun ls hl => ?_)
        refine lv_aload_n hx hb dX8_atom_58 rfl (lv_at hl 1 rfl) ?_
        refine lv_bipush (v := (41 : Int32)) hx hb dX8_atom_59 (by decide) ?_
        refine mm_VI ⟨hx, hb, hml, hown, hts⟩ (mmt_isSign l _ _ hw) (cwV 1 hts (lw_V q1518 q1520 qs78 q120 q1521) rfl rfl rfl cd_X8_isSign ⟨by simp only [mmr_g_parse, mmr_isSign]; omega, by simp only [mmr_g_parse, mmr_isSign]; omega⟩) hW (mm_recv hW) hS rfl hl.1 rfl (Nat.le_of_ble_eq_true rfl) dX8_atom_61 (fun r20 σ19 H locs hw hW hS => ?_)
        obtain ⟨hz_r20, hw⟩ := hw
        refine lv_if_ne (tgt := 71) hx hb dX8_atom_64 (by decide) (fun c25 => ?_) (fun c25 => ?_)
        · have hw := hw.2 c25
          exact mmk_atom_71 hG_either hG_both hG_not hG_added hG_term hG_atom C0   r18 σ19 _ _ _ hw hW hS (lv_sub hl [1, 0] rfl)
        · have hw := hw.1 c25
          refine lv_aload_n hx hb dX8_atom_67 rfl (lv_at hl 1 rfl) ?_
          refine mm_VV ⟨hx, hb, hml, hown, hts⟩ (mmt_fail l _ hw) (cwV 0 hts (lw_V q1486 q1488 qs70 q120 q1489) rfl rfl rfl cd_X8_fail ⟨by simp only [mmr_g_parse, mmr_fail]; omega, by simp only [mmr_g_parse, mmr_fail]; omega⟩) hW (mm_recv hW) hS rfl hl.1 rfl (Nat.le_of_ble_eq_true rfl) dX8_atom_68 (fun σ24 H locs hw hW hS => ?_)
          exact mmk_atom_71 hG_either hG_both hG_not hG_added hG_term hG_atom C0   r18 σ24 _ _ _ hw hW hS (lv_sub hl [1, 0] rfl)
  · have hw := hw.2 c34
    refine lv_aload_n hx hb dX8_atom_11 rfl (lv_at hl 1 rfl) ?_
    refine mm_VI ⟨hx, hb, hml, hown, hts⟩ (mmt_opens l _ hw) (cwV 0 hts (lw_V q1502 q1504 qs74 q120 q1505) rfl rfl rfl cd_X8_opens ⟨by simp only [mmr_g_parse, mmr_opens]; omega, by simp only [mmr_g_parse, mmr_opens]; omega⟩) hW (mm_recv hW) hS rfl hl.1 rfl (Nat.le_of_ble_eq_true rfl) dX8_atom_12 (fun r29 σ28 H locs hw hW hS => ?_)
    obtain ⟨hz_r29, hw⟩ := hw
    refine lv_if_eq (tgt := 161) hx hb dX8_atom_15 (by decide) (fun c33 => ?_) (fun c33 => ?_)
    · have hw := hw.1 c33
      refine lv_iload_n hx hb dX8_atom_161 rfl (lv_at hl 0 rfl) ?_
      exact gg_iret (mm_mv D cl E A ad) C0 hW hS hw dX8_atom_162
    · have hw := hw.2 c33
      refine lv_aload_n hx hb dX8_atom_18 rfl (lv_at hl 1 rfl) ?_
      refine mm_VI ⟨hx, hb, hml, hown, hts⟩ (hG_atom _ _ hw) (cwV 0 hts (lw_V q1514 q1516 qs77 q120 q1517) rfl rfl rfl cd_X8_atom ⟨by simp only [mmr_g_parse]; omega, by simp only [mmr_g_parse]; omega⟩) hW (mm_recv hW) hS rfl hl.1 rfl (Nat.le_of_ble_eq_true rfl) dX8_atom_19 (fun r31 σ30 H locs hw hW hS => ?_)
      refine lv_ineg hx hb dX8_atom_22 ?_
      refine lv_istore_n (lv' := [(1, .int (-r31)), (0, .ref (ad 0))]) hx hb dX8_atom_23 rfl hl (by decide) rfl (fun ls hl => ?_)
      refine lv_aload_n hx hb dX8_atom_24 rfl (lv_at hl 1 rfl) ?_
      refine lv_dup hx hb dX8_atom_25 rfl ?_
      refine mm_geti hx hb hts hown hW 25 (by decide) q1296 dX8_atom_26 ?_
      refine lv_iconst (v := (1 : Int32)) hx hb dX8_atom_29 (by decide) ?_
      refine lv_isub hx hb dX8_atom_30 ?_
      refine mm_puti hx hb hts hown hW hS 25 (by decide) q1296 rfl rfl rfl dX8_atom_31 (fun H locs hW hS => ?_)
      obtain ⟨σ32, eσ32⟩ : ∃ z, z = gg_s σ30 0 25 ((gg_g σ30 0 25) - (1 : Int32)) := ⟨_, rfl⟩
      rw [← eσ32] at hW
      have hw := hw σ32 eσ32
      refine lv_goto (tgt := 161) hx hb dX8_atom_34 (by decide) ?_
      refine lv_iload_n hx hb dX8_atom_161 rfl (lv_at hl 0 rfl) ?_
      exact gg_iret (mm_mv D cl E A ad) C0 hW hS hw dX8_atom_162
def mmw_g_parse : Nat → Nat → gg_S → (Int32 → gg_S → Prop) → Prop
  | 0 => fun _ _ _ => False
  | d + 1 => fun t σ Q => if t = 0 then mmw_either (mmw_g_parse d) σ Q else if t = 1 then mmw_both (mmw_g_parse d) σ Q else if t = 2 then mmw_not (mmw_g_parse d) σ Q else if t = 3 then mmw_added (mmw_g_parse d) σ Q else if t = 4 then mmw_term (mmw_g_parse d) σ Q else if t = 5 then mmw_atom (mmw_g_parse d) σ Q else False
set_option maxHeartbeats 4000000 in
set_option maxRecDepth 100000 in
theorem mmt_g_parse (l : Launch) {D : va_G} {cl : List vw_C} {E : ClassId × ClassId} {A : Nat → Prop} {ad : Nat → Nat} : ∀ d : Nat, (∀  (σ : gg_S) (Q : Int32 → gg_S → Prop), mmw_g_parse d 0 σ Q → Met l yX8_either (ws_ yX8_either cX8_either 3 (some .int)) (mmr_g_parse d) (va_Pc [.ref (ad 0)] (fun U => mm_W D cl E A ad σ U U.heap)) (va_Qi Q (fun u t => mm_W D cl E A ad u t t.heap) A) 0 0 A) ∧ (∀  (σ : gg_S) (Q : Int32 → gg_S → Prop), mmw_g_parse d 1 σ Q → Met l yX8_both (ws_ yX8_both cX8_both 3 (some .int)) (mmr_g_parse d) (va_Pc [.ref (ad 0)] (fun U => mm_W D cl E A ad σ U U.heap)) (va_Qi Q (fun u t => mm_W D cl E A ad u t t.heap) A) 0 0 A) ∧ (∀  (σ : gg_S) (Q : Int32 → gg_S → Prop), mmw_g_parse d 2 σ Q → Met l yX8_not (ws_ yX8_not cX8_not 4 (some .int)) (mmr_g_parse d) (va_Pc [.ref (ad 0)] (fun U => mm_W D cl E A ad σ U U.heap)) (va_Qi Q (fun u t => mm_W D cl E A ad u t t.heap) A) 0 0 A) ∧ (∀  (σ : gg_S) (Q : Int32 → gg_S → Prop), mmw_g_parse d 3 σ Q → Met l yX8_added (ws_ yX8_added cX8_added 4 (some .int)) (mmr_g_parse d) (va_Pc [.ref (ad 0)] (fun U => mm_W D cl E A ad σ U U.heap)) (va_Qi Q (fun u t => mm_W D cl E A ad u t t.heap) A) 0 0 A) ∧ (∀  (σ : gg_S) (Q : Int32 → gg_S → Prop), mmw_g_parse d 4 σ Q → Met l yX8_term (ws_ yX8_term cX8_term 2 (some .int)) (mmr_g_parse d) (va_Pc [.ref (ad 0)] (fun U => mm_W D cl E A ad σ U U.heap)) (va_Qi Q (fun u t => mm_W D cl E A ad u t t.heap) A) 0 0 A) ∧ (∀  (σ : gg_S) (Q : Int32 → gg_S → Prop), mmw_g_parse d 5 σ Q → Met l yX8_atom (ws_ yX8_atom cX8_atom 2 (some .int)) (mmr_g_parse d) (va_Pc [.ref (ad 0)] (fun U => mm_W D cl E A ad σ U U.heap)) (va_Qi Q (fun u t => mm_W D cl E A ad u t t.heap) A) 0 0 A) := by
  intro d
  induction d with
  | zero => exact ⟨fun σ Q hw => hw.elim, fun σ Q hw => hw.elim, fun σ Q hw => hw.elim, fun σ Q hw => hw.elim, fun σ Q hw => hw.elim, fun σ Q hw => hw.elim⟩
  | succ d ih =>
    obtain ⟨h0, h1, h2, h3, h4, h5⟩ := ih
    exact ⟨fun σ Q hw => mmt_either l h0 h1 h2 h3 h4 h5 σ hw, fun σ Q hw => mmt_both l h0 h1 h2 h3 h4 h5 σ hw, fun σ Q hw => mmt_not l h0 h1 h2 h3 h4 h5 σ hw, fun σ Q hw => mmt_added l h0 h1 h2 h3 h4 h5 σ hw, fun σ Q hw => mmt_term l h0 h1 h2 h3 h4 h5 σ hw, fun σ Q hw => mmt_atom l h0 h1 h2 h3 h4 h5 σ hw⟩
theorem cd_X8_part : yX8_part.cls = RX8 ∧ yX8_part.cls ≠ "java/lang/invoke/MethodHandle" ∧ yX8_part.cls ≠ "java/lang/invoke/VarHandle" ∧ (parseMethodDescriptor yX8_part.desc).map (fun d => d.parameters.length) = some 1 := by decide +kernel
/-! GleanersForGapsModel.part(Z)I -/
def mmw_part_48  (Q : Int32 → gg_S → Prop)  (x2 : Int32) (σ : gg_S) : Prop :=
    ((((gg_g σ 0 26) = 0) → (mmw_next σ (fun σ5 => Q x2 σ5))) ∧ (¬ ((gg_g σ 0 26) = 0) → Q x2 σ))
def mmw_part_34  (Q : Int32 → gg_S → Prop)  (s0 : Int32) (σ : gg_S) : Prop :=
    (mmw_isSign (59 : Int32) σ (fun r4 σ3 => (((r4 = 0) → (mmw_fail σ3 (fun σ7 => mmw_part_48 Q s0 σ7))) ∧ (¬ (r4 = 0) → mmw_part_48 Q s0 σ3))))
def mmw_part_19  (Q : Int32 → gg_S → Prop)   (σ : gg_S) : Prop :=
    ((((gg_g σ 0 26) = 0) → (mmw_g_parse 42 0 σ (fun r2 σ1 => mmw_part_34 Q r2 σ1))) ∧ (¬ ((gg_g σ 0 26) = 0) → mmw_part_34 Q (0 : Int32) σ))
def mmw_part_8  (Q : Int32 → gg_S → Prop)   (σ : gg_S) : Prop :=
    ((((gg_g σ 0 26) = 0) → (mmw_next σ (fun σ10 => mmw_part_19 Q σ10))) ∧ (¬ ((gg_g σ 0 26) = 0) → mmw_part_19 Q σ))
def mmw_part  (a1 : Int32) (σ : gg_S) (Q : Int32 → gg_S → Prop) : Prop :=
    (((a1 = 0) → (mmw_fail σ (fun σ12 => mmw_part_8 Q σ12))) ∧ (¬ (a1 = 0) → mmw_part_8 Q σ))
abbrev mmr_part : Room := { frames := 47, cells := 0, slots := 0, locals := 1079 }
set_option maxHeartbeats 4000000 in
set_option maxRecDepth 100000 in
theorem mmk_part_48 {p : Program} {l : Launch} {e : Env} {s : State} {m : MethodId} {args : Array Value} {below : List Frame} {meth : Method} {c : Code} {D : va_G} {cl : List vw_C} {E : ClassId × ClassId} {A : Nat → Prop} {ad : Nat → Nat} {Q : Int32 → gg_S → Prop}   (C0 : gg_C p s m args meth c RX8 cX8_part 3 (some .int))  :
    ∀ (x2 : Int32) (σ : gg_S) (H : Heap) (locs : List Loc) (ls : Array Slot), mmw_part_48 Q x2 σ → mm_W D cl E A ad σ s H → va_S A s.heap H locs → lv_has ls 3 [(0, .ref (ad 0)), (2, .int x2)] → W p l e mmr_part s m args below meth c H locs 0 0 (MQ below (va_Qi Q (fun u t => mm_W D cl E A ad u t t.heap) A) args s 0 0 A) (F0 m 48 ls []) := by
  obtain ⟨hx, hb, hml, hown, hts, hr, hlocks⟩ := id C0
  intro x2 σ H locs ls hw hW hS hl
  unfold mmw_part_48 at hw
  refine lv_aload_n hx hb dX8_part_48 rfl (lv_at hl 0 rfl) ?_
  refine mm_geti hx hb hts hown hW 26 (by decide) q1297 dX8_part_49 ?_
  refine lv_if_ne (tgt := 59) hx hb dX8_part_52 (by decide) (fun c6 => ?_) (fun c6 => ?_)
  · have hw := hw.2 c6
    refine lv_iload_n hx hb dX8_part_59 rfl (lv_at hl 1 rfl) ?_
    exact gg_iret (mm_mv D cl E A ad) C0 hW hS hw dX8_part_60
  · have hw := hw.1 c6
    refine lv_aload_n hx hb dX8_part_55 rfl (lv_at hl 0 rfl) ?_
    refine mm_VV ⟨hx, hb, hml, hown, hts⟩ (mmt_next l _ hw) (cwV 0 hts (lw_V q1462 q1464 qs65 q120 q1465) rfl rfl rfl cd_X8_next ⟨Nat.le_of_ble_eq_true rfl, Nat.le_of_ble_eq_true rfl⟩) hW (mm_recv hW) hS rfl hl.1 rfl (Nat.le_of_ble_eq_true rfl) dX8_part_56 (fun σ5 H locs hw hW hS => ?_)
    refine lv_iload_n hx hb dX8_part_59 rfl (lv_at hl 1 rfl) ?_
    exact gg_iret (mm_mv D cl E A ad) C0 hW hS hw dX8_part_60
set_option maxHeartbeats 4000000 in
set_option maxRecDepth 100000 in
theorem mmk_part_34 {p : Program} {l : Launch} {e : Env} {s : State} {m : MethodId} {args : Array Value} {below : List Frame} {meth : Method} {c : Code} {D : va_G} {cl : List vw_C} {E : ClassId × ClassId} {A : Nat → Prop} {ad : Nat → Nat} {Q : Int32 → gg_S → Prop}   (C0 : gg_C p s m args meth c RX8 cX8_part 3 (some .int))  :
    ∀ (s0 : Int32) (σ : gg_S) (H : Heap) (locs : List Loc) (ls : Array Slot), mmw_part_34 Q s0 σ → mm_W D cl E A ad σ s H → va_S A s.heap H locs → lv_has ls 3 [(0, .ref (ad 0))] → W p l e mmr_part s m args below meth c H locs 0 0 (MQ below (va_Qi Q (fun u t => mm_W D cl E A ad u t t.heap) A) args s 0 0 A) (F0 m 34 ls [.int s0]) := by
  obtain ⟨hx, hb, hml, hown, hts, hr, hlocks⟩ := id C0
  intro s0 σ H locs ls hw hW hS hl
  unfold mmw_part_34 at hw
  refine lv_istore_n (lv' := [(2, .int s0), (0, .ref (ad 0))]) hx hb dX8_part_34 rfl hl (by decide) rfl (fun ls hl => ?_)
  refine lv_aload_n hx hb dX8_part_35 rfl (lv_at hl 1 rfl) ?_
  refine lv_bipush (v := (59 : Int32)) hx hb dX8_part_36 (by decide) ?_
  refine mm_VI ⟨hx, hb, hml, hown, hts⟩ (mmt_isSign l _ _ hw) (cwV 1 hts (lw_V q1518 q1520 qs78 q120 q1521) rfl rfl rfl cd_X8_isSign ⟨Nat.le_of_ble_eq_true rfl, Nat.le_of_ble_eq_true rfl⟩) hW (mm_recv hW) hS rfl hl.1 rfl (Nat.le_of_ble_eq_true rfl) dX8_part_38 (fun r4 σ3 H locs hw hW hS => ?_)
  obtain ⟨hz_r4, hw⟩ := hw
  refine lv_if_ne (tgt := 48) hx hb dX8_part_41 (by decide) (fun c8 => ?_) (fun c8 => ?_)
  · have hw := hw.2 c8
    exact mmk_part_48  C0   s0 σ3 _ _ _ hw hW hS (lv_sub hl [1, 0] rfl)
  · have hw := hw.1 c8
    refine lv_aload_n hx hb dX8_part_44 rfl (lv_at hl 1 rfl) ?_
    refine mm_VV ⟨hx, hb, hml, hown, hts⟩ (mmt_fail l _ hw) (cwV 0 hts (lw_V q1486 q1488 qs70 q120 q1489) rfl rfl rfl cd_X8_fail ⟨Nat.le_of_ble_eq_true rfl, Nat.le_of_ble_eq_true rfl⟩) hW (mm_recv hW) hS rfl hl.1 rfl (Nat.le_of_ble_eq_true rfl) dX8_part_45 (fun σ7 H locs hw hW hS => ?_)
    exact mmk_part_48  C0   s0 σ7 _ _ _ hw hW hS (lv_sub hl [1, 0] rfl)
set_option maxHeartbeats 4000000 in
set_option maxRecDepth 100000 in
theorem mmk_part_19 {p : Program} {l : Launch} {e : Env} {s : State} {m : MethodId} {args : Array Value} {below : List Frame} {meth : Method} {c : Code} {D : va_G} {cl : List vw_C} {E : ClassId × ClassId} {A : Nat → Prop} {ad : Nat → Nat} {Q : Int32 → gg_S → Prop}   (C0 : gg_C p s m args meth c RX8 cX8_part 3 (some .int))  :
    ∀  (σ : gg_S) (H : Heap) (locs : List Loc) (ls : Array Slot), mmw_part_19 Q σ → mm_W D cl E A ad σ s H → va_S A s.heap H locs → lv_has ls 3 [(0, .ref (ad 0))] → W p l e mmr_part s m args below meth c H locs 0 0 (MQ below (va_Qi Q (fun u t => mm_W D cl E A ad u t t.heap) A) args s 0 0 A) (F0 m 19 ls []) := by
  obtain ⟨hx, hb, hml, hown, hts, hr, hlocks⟩ := id C0
  intro σ H locs ls hw hW hS hl
  unfold mmw_part_19 at hw
  refine lv_aload_n hx hb dX8_part_19 rfl (lv_at hl 0 rfl) ?_
  refine mm_geti hx hb hts hown hW 26 (by decide) q1297 dX8_part_20 ?_
  refine lv_if_eq (tgt := 30) hx hb dX8_part_23 (by decide) (fun c9 => ?_) (fun c9 => ?_)
  · have hw := hw.1 c9
    refine lv_aload_n hx hb dX8_part_30 rfl (lv_at hl 0 rfl) ?_
    refine mm_VI ⟨hx, hb, hml, hown, hts⟩ ((mmt_g_parse l 42).1 _ _ hw) (cwV 0 hts (lw_V q1490 q1492 qs71 q120 q1493) rfl rfl rfl cd_X8_either ⟨Nat.le_of_ble_eq_true rfl, Nat.le_of_ble_eq_true rfl⟩) hW (mm_recv hW) hS rfl hl.1 rfl (Nat.le_of_ble_eq_true rfl) dX8_part_31 (fun r2 σ1 H locs hw hW hS => ?_)
    exact mmk_part_34  C0   r2 σ1 _ _ _ hw hW hS (hl)
  · have hw := hw.2 c9
    refine lv_iconst (v := (0 : Int32)) hx hb dX8_part_26 (by decide) ?_
    refine lv_goto (tgt := 34) hx hb dX8_part_27 (by decide) ?_
    exact mmk_part_34  C0   (0 : Int32) σ _ _ _ hw hW hS (hl)
set_option maxHeartbeats 4000000 in
set_option maxRecDepth 100000 in
theorem mmk_part_8 {p : Program} {l : Launch} {e : Env} {s : State} {m : MethodId} {args : Array Value} {below : List Frame} {meth : Method} {c : Code} {D : va_G} {cl : List vw_C} {E : ClassId × ClassId} {A : Nat → Prop} {ad : Nat → Nat} {Q : Int32 → gg_S → Prop}   (C0 : gg_C p s m args meth c RX8 cX8_part 3 (some .int))  :
    ∀  (σ : gg_S) (H : Heap) (locs : List Loc) (ls : Array Slot), mmw_part_8 Q σ → mm_W D cl E A ad σ s H → va_S A s.heap H locs → lv_has ls 3 [(0, .ref (ad 0))] → W p l e mmr_part s m args below meth c H locs 0 0 (MQ below (va_Qi Q (fun u t => mm_W D cl E A ad u t t.heap) A) args s 0 0 A) (F0 m 8 ls []) := by
  obtain ⟨hx, hb, hml, hown, hts, hr, hlocks⟩ := id C0
  intro σ H locs ls hw hW hS hl
  unfold mmw_part_8 at hw
  refine lv_aload_n hx hb dX8_part_8 rfl (lv_at hl 0 rfl) ?_
  refine mm_geti hx hb hts hown hW 26 (by decide) q1297 dX8_part_9 ?_
  refine lv_if_ne (tgt := 19) hx hb dX8_part_12 (by decide) (fun c11 => ?_) (fun c11 => ?_)
  · have hw := hw.2 c11
    exact mmk_part_19  C0   σ _ _ _ hw hW hS (hl)
  · have hw := hw.1 c11
    refine lv_aload_n hx hb dX8_part_15 rfl (lv_at hl 0 rfl) ?_
    refine mm_VV ⟨hx, hb, hml, hown, hts⟩ (mmt_next l _ hw) (cwV 0 hts (lw_V q1462 q1464 qs65 q120 q1465) rfl rfl rfl cd_X8_next ⟨Nat.le_of_ble_eq_true rfl, Nat.le_of_ble_eq_true rfl⟩) hW (mm_recv hW) hS rfl hl.1 rfl (Nat.le_of_ble_eq_true rfl) dX8_part_16 (fun σ10 H locs hw hW hS => ?_)
    exact mmk_part_19  C0   σ10 _ _ _ hw hW hS (hl)
set_option maxHeartbeats 4000000 in
set_option maxRecDepth 100000 in
theorem mmt_part (l : Launch) {D : va_G} {cl : List vw_C} {E : ClassId × ClassId} {A : Nat → Prop} {ad : Nat → Nat}  (a1 : Int32) (σ : gg_S) {Q : Int32 → gg_S → Prop} (hw : mmw_part a1 σ Q) :
    Met l yX8_part (ws_ yX8_part cX8_part 3 (some .int)) mmr_part (va_Pc [.ref (ad 0), .int a1] (fun U => mm_W D cl E A ad σ U U.heap)) (va_Qi Q (fun u t => mm_W D cl E A ad u t t.heap) A) 0 0 A := by
  refine gg_entry (W0 := fun s H => mm_W D cl E A ad σ s H) (by decide) (Nat.le_of_ble_eq_true rfl) ?_
  intro p e s m args below meth c C0 hW ls hl
  have C0 : gg_C p s m args meth c RX8 cX8_part 3 (some .int) := C0
  obtain ⟨hx, hb, hml, hown, hts, hr, hlocks⟩ := id C0
  have hl : lv_has ls 3 [(0, .ref (ad 0)), (1, .int a1)] := hl
  have hS : va_S A s.heap s.heap [] := va_S.rf
  unfold mmw_part at hw
  refine lv_iload_n hx hb dX8_part_0 rfl (lv_at hl 1 rfl) ?_
  refine lv_if_ne (tgt := 8) hx hb dX8_part_1 (by decide) (fun c13 => ?_) (fun c13 => ?_)
  · have hw := hw.2 c13
    exact mmk_part_8  C0   σ _ _ _ hw hW hS (lv_sub hl [0] rfl)
  · have hw := hw.1 c13
    refine lv_aload_n hx hb dX8_part_4 rfl (lv_at hl 0 rfl) ?_
    refine mm_VV ⟨hx, hb, hml, hown, hts⟩ (mmt_fail l _ hw) (cwV 0 hts (lw_V q1486 q1488 qs70 q120 q1489) rfl rfl rfl cd_X8_fail ⟨Nat.le_of_ble_eq_true rfl, Nat.le_of_ble_eq_true rfl⟩) hW (mm_recv hW) hS rfl hl.1 rfl (Nat.le_of_ble_eq_true rfl) dX8_part_5 (fun σ12 H locs hw hW hS => ?_)
    exact mmk_part_8  C0   σ12 _ _ _ hw hW hS (lv_sub hl [0] rfl)
