/-! the walks of PageServerModel, printed by gen/walk.py -/
set_option maxHeartbeats 4000000
set_option maxRecDepth 100000
/-- PageServerModel.drop()I -/
abbrev rmX6_drop : Room := { frames := 2, cells := 0, slots := 0, locals := 45 }
section
variable {p : Program} {l : Launch} {e : Env} {s : State} {m : MethodId} {args : Array Value} {below : List Frame} {meth : Method} {c : Code} {D : va_G} {N0 : Nat} {gp : Nat → Nat} {ad : Nat → Nat} {XF : x_X} {h : x_H}
def wX6_drop_b29 (post : Int32 → (Nat → Int32) → (Nat → Nat → Int32) → Prop)  (F : (Nat → Int32)) (M : (Nat → Nat → Int32)) : Prop :=
  post 1 F M
theorem kX6_drop_b29 {post : Int32 → (Nat → Int32) → (Nat → Nat → Int32) → Prop} (C : x_C p s m args meth c cX6_drop 1 (some .int) RX6 D N0 gp) {F : (Nat → Int32)} {M : (Nat → Nat → Int32)} {H : Heap} {locs : List Loc} {ls : Array Slot} (hR : x_R D s N0 (fixM ad F M ++ XF) h H) (hS : va_S (x_A N0) s.heap H locs) (hl : lv_has ls 1 []) (hw : wX6_drop_b29 post F M) : W p l e rmX6_drop s m args below meth c H locs 0 0 (MQ below (x_Qc D N0 (x_Vi (qMi ad XF h post))) args s 0 0 (x_A N0)) (F0 m 29 ls []) := by
  obtain ⟨⟨hx, hb, hml, hown, hts⟩, hr, hlocks, hG, hN⟩ := id C
  unfold wX6_drop_b29 at hw
  refine lv_iconst (v := 1) hx hb dX6_drop_29 (by decide) ?_
  exact x_endi C hR hS ⟨_, rfl, ⟨_, _, rfl, rfl, hw⟩⟩ (Nat.le_refl _) (Nat.le_refl _) dX6_drop_30
end
def wX6_drop (post : Int32 → (Nat → Int32) → (Nat → Nat → Int32) → Prop)  (F : (Nat → Int32)) (M : (Nat → Nat → Int32)) : Prop :=
  ((F 28) = 1 → ((F 27) = 0 → wX6_drop_b29 post F M) ∧ (¬ (F 27) = 0 → wX6_idle (fun r8 => (r8 = 0 → wX6_end (fun F10 M10 => post 0 F10 M10) (F 27) F M) ∧ (¬ r8 = 0 → wX6_drop_b29 post F M)) (F 27) F M)) ∧ (¬ (F 28) = 1 → post 6 F M)
theorem kX6_drop (l : Launch) (D : va_G) (N0 : Nat) (gp : Nat → Nat) (ad : Nat → Nat) (XF : x_X) (h : x_H)  (F : (Nat → Int32)) (M : (Nat → Nat → Int32)) (post : Int32 → (Nat → Int32) → (Nat → Nat → Int32) → Prop) (hw : wX6_drop post  F M) : Met l yX6_drop (ws_ yX6_drop cX6_drop 1 (some .int)) rmX6_drop (x_Pc D N0 gp (fixM ad F M ++ XF) h [.ref (ad 1000)]) (x_Qc D N0 (x_Vi (qMi ad XF h post))) 0 0 (x_A N0) := by
  refine x_start (lv := [(0, .ref (ad 1000))]) (by decide) rfl (Nat.le_of_ble_eq_true rfl) rfl ?_
  intro p e s m below meth c C hR ls hl
  have hS : va_S (x_A N0) s.heap s.heap [] := va_S.rf
  obtain ⟨⟨hx, hb, hml, hown, hts⟩, hr, hlocks, hG, hN⟩ := id C
  unfold wX6_drop at hw
  refine lv_aload_n hx hb dX6_drop_0 rfl (lv_at hl 0 rfl) ?_
  refine x_get (ci := 5) (Cn := RX6) (T := TX6) (N := 55) (v := .int (F 28)) C (hR.rdX 0 rfl) rfl in_X6 28 (by decide) q1207 (fun _ h9 => h9) rfl dX6_drop_1 ?_
  refine lv_iconst (v := 1) hx hb dX6_drop_4 (by decide) ?_
  refine lv_icmp_eq (tgt := 11) hx hb dX6_drop_5 (by decide) (fun c6 => ?_) (fun c6 => ?_)
  · have hw := hw.1 c6
    refine lv_aload_n hx hb dX6_drop_11 rfl (lv_at hl 0 rfl) ?_
    refine x_get (ci := 5) (Cn := RX6) (T := TX6) (N := 55) (v := .int (F 27)) C (hR.rdX 0 rfl) rfl in_X6 27 (by decide) q1206 (fun _ h9 => h9) rfl dX6_drop_12 ?_
    refine lv_if_eq (tgt := 29) hx hb dX6_drop_15 (by decide) (fun c7 => ?_) (fun c7 => ?_)
    · have hw := hw.1 c7
      exact kX6_drop_b29 C hR hS (lv_sub hl [] rfl) hw
    · have hw := hw.2 c7
      refine lv_aload_n hx hb dX6_drop_18 rfl (lv_at hl 0 rfl) ?_
      refine lv_aload_n hx hb dX6_drop_19 rfl (lv_at hl 0 rfl) ?_
      refine x_get (ci := 5) (Cn := RX6) (T := TX6) (N := 55) (v := .int (F 27)) C (hR.rdX 0 rfl) rfl in_X6 27 (by decide) q1206 (fun _ h9 => h9) rfl dX6_drop_20 ?_
      refine x_calli0 (x_runV (n := 1) (As := [.int (F 27)]) C hR hS (kX6_idle l D N0 gp ad XF _ (F 27) F M _ hw) (lw_V q1415 q1417 qs52 q104 q1418) rfl rfl (by decide +kernel) ⟨Nat.le_of_ble_eq_true rfl, Nat.le_of_ble_eq_true rfl⟩ (x_recv C (hR.rdX 0 rfl) rfl) rfl hl.1 rfl (Nat.le_of_ble_eq_true rfl) dX6_drop_23 ⟨Nat.le_refl _, Nat.le_refl _⟩) hS (fun r8 X1 h1 H locs hq hR hS => ?_)
      obtain ⟨e1, e2, hw⟩ := hq
      rw [e1, e2] at hR
      refine lv_if_eq (tgt := 31) hx hb dX6_drop_26 (by decide) (fun c9 => ?_) (fun c9 => ?_)
      · have hw := hw.1 c9
        refine lv_aload_n hx hb dX6_drop_31 rfl (lv_at hl 0 rfl) ?_
        refine lv_aload_n hx hb dX6_drop_32 rfl (lv_at hl 0 rfl) ?_
        refine x_get (ci := 5) (Cn := RX6) (T := TX6) (N := 55) (v := .int (F 27)) C (hR.rdX 0 rfl) rfl in_X6 27 (by decide) q1206 (fun _ h9 => h9) rfl dX6_drop_33 ?_
        refine x_callv0 (x_runV (n := 1) (As := [.int (F 27)]) C hR hS (kX6_end l D N0 gp ad XF _ (F 27) F M _ hw) (lw_V q1520 q1522 qs78 q104 q1523) rfl rfl (by decide +kernel) ⟨Nat.le_of_ble_eq_true rfl, Nat.le_of_ble_eq_true rfl⟩ (x_recv C (hR.rdX 0 rfl) rfl) rfl hl.1 rfl (Nat.le_of_ble_eq_true rfl) dX6_drop_36 ⟨Nat.le_refl _, Nat.le_refl _⟩) hS (fun X1 h1 H locs hq hR hS => ?_)
        obtain ⟨F10, M10, e1, e2, hw⟩ := hq
        rw [e1, e2] at hR
        refine lv_iconst (v := 0) hx hb dX6_drop_39 (by decide) ?_
        exact x_endi C hR hS ⟨_, rfl, ⟨_, _, rfl, rfl, hw⟩⟩ (Nat.le_refl _) (Nat.le_refl _) dX6_drop_40
      · have hw := hw.2 c9
        exact kX6_drop_b29 C hR hS (lv_sub hl [] rfl) hw
  · have hw := hw.2 c6
    refine lv_bipush (v := 6) hx hb dX6_drop_8 (by decide) ?_
    exact x_endi C hR hS ⟨_, rfl, ⟨_, _, rfl, rfl, hw⟩⟩ (Nat.le_refl _) (Nat.le_refl _) dX6_drop_10
/-- PageServerModel.settings()I -/
abbrev rmX6_settings : Room := { frames := 2, cells := 0, slots := 0, locals := 45 }
section
variable {p : Program} {l : Launch} {e : Env} {s : State} {m : MethodId} {args : Array Value} {below : List Frame} {meth : Method} {c : Code} {D : va_G} {N0 : Nat} {gp : Nat → Nat} {ad : Nat → Nat} {XF : x_X} {h : x_H}
def wX6_settings_b30 (post : Int32 → (Nat → Int32) → (Nat → Nat → Int32) → Prop)  (F : (Nat → Int32)) (M : (Nat → Nat → Int32)) (s0 : Int32) : Prop :=
  post s0 F M
theorem kX6_settings_b30 {post : Int32 → (Nat → Int32) → (Nat → Nat → Int32) → Prop} (C : x_C p s m args meth c cX6_settings 5 (some .int) RX6 D N0 gp) {F : (Nat → Int32)} {M : (Nat → Nat → Int32)} {s0 : Int32} {H : Heap} {locs : List Loc} {ls : Array Slot} (hR : x_R D s N0 (fixM ad F M ++ XF) h H) (hS : va_S (x_A N0) s.heap H locs) (hl : lv_has ls 5 []) (hw : wX6_settings_b30 post F M s0) : W p l e rmX6_settings s m args below meth c H locs 0 0 (MQ below (x_Qc D N0 (x_Vi (qMi ad XF h post))) args s 0 0 (x_A N0)) (F0 m 30 ls [.int s0]) := by
  obtain ⟨⟨hx, hb, hml, hown, hts⟩, hr, hlocks, hG, hN⟩ := id C
  unfold wX6_settings_b30 at hw
  exact x_endi C hR hS ⟨_, rfl, ⟨_, _, rfl, rfl, hw⟩⟩ (Nat.le_refl _) (Nat.le_refl _) dX6_settings_30
def wX6_settings_b152 (post : Int32 → (Nat → Int32) → (Nat → Nat → Int32) → Prop) (K46 : (Nat → Int32) → (Nat → Nat → Int32) → Int32 → Prop)  (F : (Nat → Int32)) (M : (Nat → Nat → Int32)) (x1 : Int32) (s0 : Int32) : Prop :=
  K46 (upd F 51 s0) M (x1 + 2)
theorem kX6_settings_b152 {post : Int32 → (Nat → Int32) → (Nat → Nat → Int32) → Prop} {K46 : (Nat → Int32) → (Nat → Nat → Int32) → Int32 → Prop} (C : x_C p s m args meth c cX6_settings 5 (some .int) RX6 D N0 gp) (hK46 : ∀ (F : (Nat → Int32)) (M : (Nat → Nat → Int32)) (x1 : Int32) (H : Heap) (locs : List Loc) (ls : Array Slot), x_R D s N0 (fixM ad F M ++ XF) h H → va_S (x_A N0) s.heap H locs → lv_has ls 5 [(0, .ref (ad 1000)), (1, .int x1)] → K46 F M x1 → W p l e rmX6_settings s m args below meth c H locs 0 0 (MQ below (x_Qc D N0 (x_Vi (qMi ad XF h post))) args s 0 0 (x_A N0)) (F0 m 46 ls [])) {F : (Nat → Int32)} {M : (Nat → Nat → Int32)} {x1 : Int32} {s0 : Int32} {H : Heap} {locs : List Loc} {ls : Array Slot} (hR : x_R D s N0 (fixM ad F M ++ XF) h H) (hS : va_S (x_A N0) s.heap H locs) (hl : lv_has ls 5 [(0, .ref (ad 1000)), (1, .int x1)]) (hw : wX6_settings_b152 post K46 F M x1 s0) : W p l e rmX6_settings s m args below meth c H locs 0 0 (MQ below (x_Qc D N0 (x_Vi (qMi ad XF h post))) args s 0 0 (x_A N0)) (F0 m 152 ls [.int s0, .ref (ad 1000)]) := by
  obtain ⟨⟨hx, hb, hml, hown, hts⟩, hr, hlocks, hG, hN⟩ := id C
  unfold wX6_settings_b152 at hw
  refine x_putX (ci := 5) (Cn := RX6) (T := TX6) (N := 55) (v := .int s0) C hR hS 0 rfl rfl in_X6 tyX6_ok nmX6 51 (by decide) q1230 (fun _ h9 => h9) rfl rfl rfl (Nat.le_of_ble_eq_true rfl) (sM_f51 ..) dX6_settings_152 (fun H locs hR hS => ?_)
  refine lv_iinc (v := x1 + 2) (lv' := [(1, .int (x1 + 2)), (0, .ref (ad 1000))]) hx hb dX6_settings_155 hl (k := 1) rfl (x_inc 2 2 (by decide)) (by decide) rfl (fun ls hl => ?_)
  refine lv_goto (tgt := 46) hx hb dX6_settings_158 (by decide) ?_
  exact hK46 _ _ _ _ _ _ hR hS (lv_sub hl [1, 0] rfl) hw
def wX6_settings_b138 (post : Int32 → (Nat → Int32) → (Nat → Nat → Int32) → Prop) (K46 : (Nat → Int32) → (Nat → Nat → Int32) → Int32 → Prop)  (F : (Nat → Int32)) (M : (Nat → Nat → Int32)) (x1 : Int32) (x2 : Int32) (x3 : Int32) : Prop :=
  (x2 = 4 → wX6_settings_b152 post K46 F M x1 x3) ∧ (¬ x2 = 4 → wX6_settings_b152 post K46 F M x1 (F 51))
theorem kX6_settings_b138 {post : Int32 → (Nat → Int32) → (Nat → Nat → Int32) → Prop} {K46 : (Nat → Int32) → (Nat → Nat → Int32) → Int32 → Prop} (C : x_C p s m args meth c cX6_settings 5 (some .int) RX6 D N0 gp) (hK46 : ∀ (F : (Nat → Int32)) (M : (Nat → Nat → Int32)) (x1 : Int32) (H : Heap) (locs : List Loc) (ls : Array Slot), x_R D s N0 (fixM ad F M ++ XF) h H → va_S (x_A N0) s.heap H locs → lv_has ls 5 [(0, .ref (ad 1000)), (1, .int x1)] → K46 F M x1 → W p l e rmX6_settings s m args below meth c H locs 0 0 (MQ below (x_Qc D N0 (x_Vi (qMi ad XF h post))) args s 0 0 (x_A N0)) (F0 m 46 ls [])) {F : (Nat → Int32)} {M : (Nat → Nat → Int32)} {x1 : Int32} {x2 : Int32} {x3 : Int32} {H : Heap} {locs : List Loc} {ls : Array Slot} (hR : x_R D s N0 (fixM ad F M ++ XF) h H) (hS : va_S (x_A N0) s.heap H locs) (hl : lv_has ls 5 [(0, .ref (ad 1000)), (1, .int x1), (2, .int x2), (3, .int x3)]) (hw : wX6_settings_b138 post K46 F M x1 x2 x3) : W p l e rmX6_settings s m args below meth c H locs 0 0 (MQ below (x_Qc D N0 (x_Vi (qMi ad XF h post))) args s 0 0 (x_A N0)) (F0 m 138 ls []) := by
  obtain ⟨⟨hx, hb, hml, hown, hts⟩, hr, hlocks, hG, hN⟩ := id C
  unfold wX6_settings_b138 at hw
  refine lv_aload_n hx hb dX6_settings_138 rfl (lv_at hl 0 rfl) ?_
  refine lv_iload_n hx hb dX6_settings_139 rfl (lv_at hl 2 rfl) ?_
  refine lv_iconst (v := 4) hx hb dX6_settings_140 (by decide) ?_
  refine lv_icmp_ne (tgt := 148) hx hb dX6_settings_141 (by decide) (fun c37 => ?_) (fun c37 => ?_)
  · have hw := hw.2 c37
    refine lv_aload_n hx hb dX6_settings_148 rfl (lv_at hl 0 rfl) ?_
    refine x_get (ci := 5) (Cn := RX6) (T := TX6) (N := 55) (v := .int (F 51)) C (hR.rdX 0 rfl) rfl in_X6 51 (by decide) q1230 (fun _ h9 => h9) rfl dX6_settings_149 ?_
    exact kX6_settings_b152 C hK46 hR hS (lv_sub hl [0, 1] rfl) hw
  · have hw := hw.1 c37
    refine lv_iload_n hx hb dX6_settings_144 rfl (lv_at hl 3 rfl) ?_
    refine lv_goto (tgt := 152) hx hb dX6_settings_145 (by decide) ?_
    exact kX6_settings_b152 C hK46 hR hS (lv_sub hl [0, 1] rfl) hw
def tX6_settings_b105 (post : Int32 → (Nat → Int32) → (Nat → Nat → Int32) → Prop) (K46 : (Nat → Int32) → (Nat → Nat → Int32) → Int32 → Prop) (K105 : (Nat → Int32) → (Nat → Nat → Int32) → Int32 → Int32 → Int32 → Int32 → Prop)  (F : (Nat → Int32)) (M : (Nat → Nat → Int32)) (x1 : Int32) (x2 : Int32) (x3 : Int32) (x4 : Int32) : Prop :=
  ((4 : Int32) ≤ x4 → wX6_settings_b138 post K46 F M x1 x2 x3) ∧ (¬ (4 : Int32) ≤ x4 → (x2 = 4 → vp_in x4 4 ∧ vp_in x4 4 ∧ K105 F (va_up M 13 (upd (M 13) x4.toNatClampNeg (((M 13) x4.toNatClampNeg) + (x3 - (F 51))))) x1 x2 x3 (x4 + 1)) ∧ (¬ x2 = 4 → wX6_settings_b138 post K46 F M x1 x2 x3))
def wX6_settings_b105 (post : Int32 → (Nat → Int32) → (Nat → Nat → Int32) → Prop) (K46 : (Nat → Int32) → (Nat → Nat → Int32) → Int32 → Prop)  : Nat → (Nat → Int32) → (Nat → Nat → Int32) → Int32 → Int32 → Int32 → Int32 → Prop
  | 0 => fun _ _ _ _ _ _ => False
  | n + 1 => fun F M x1 x2 x3 x4 => tX6_settings_b105 post K46 (wX6_settings_b105 post K46 n)  F M x1 x2 x3 x4
theorem kX6_settings_b105 {post : Int32 → (Nat → Int32) → (Nat → Nat → Int32) → Prop} {K46 : (Nat → Int32) → (Nat → Nat → Int32) → Int32 → Prop} (C : x_C p s m args meth c cX6_settings 5 (some .int) RX6 D N0 gp) (hK46 : ∀ (F : (Nat → Int32)) (M : (Nat → Nat → Int32)) (x1 : Int32) (H : Heap) (locs : List Loc) (ls : Array Slot), x_R D s N0 (fixM ad F M ++ XF) h H → va_S (x_A N0) s.heap H locs → lv_has ls 5 [(0, .ref (ad 1000)), (1, .int x1)] → K46 F M x1 → W p l e rmX6_settings s m args below meth c H locs 0 0 (MQ below (x_Qc D N0 (x_Vi (qMi ad XF h post))) args s 0 0 (x_A N0)) (F0 m 46 ls [])) : ∀ (nn : Nat) (F : (Nat → Int32)) (M : (Nat → Nat → Int32)) (x1 : Int32) (x2 : Int32) (x3 : Int32) (x4 : Int32) (H : Heap) (locs : List Loc) (ls : Array Slot), x_R D s N0 (fixM ad F M ++ XF) h H → va_S (x_A N0) s.heap H locs → lv_has ls 5 [(0, .ref (ad 1000)), (1, .int x1), (2, .int x2), (3, .int x3), (4, .int x4)] → wX6_settings_b105 post K46 nn F M x1 x2 x3 x4 → W p l e rmX6_settings s m args below meth c H locs 0 0 (MQ below (x_Qc D N0 (x_Vi (qMi ad XF h post))) args s 0 0 (x_A N0)) (F0 m 105 ls []) := by
  obtain ⟨⟨hx, hb, hml, hown, hts⟩, hr, hlocks, hG, hN⟩ := id C
  intro nn
  induction nn with
  | zero =>
    intro F M x1 x2 x3 x4 H locs ls hR hS hl hw
    exact False.elim hw
  | succ nn ih =>
    intro F M x1 x2 x3 x4 H locs ls hR hS hl hw
    have hK105 := ih
    have hw : tX6_settings_b105 post K46 (wX6_settings_b105 post K46 nn)  F M x1 x2 x3 x4 := hw
    unfold tX6_settings_b105 at hw
    refine lv_iload hx hb dX6_settings_105 (lv_at hl 4 rfl) ?_
    refine lv_iconst (v := 4) hx hb dX6_settings_107 (by decide) ?_
    refine lv_icmp_ge (tgt := 138) hx hb dX6_settings_108 (by decide) (fun c33 => ?_) (fun c33 => ?_)
    · have hw := hw.1 c33
      exact kX6_settings_b138 C hK46 hR hS (lv_sub hl [0, 1, 2, 3] rfl) hw
    · have hw := hw.2 c33
      refine lv_iload_n hx hb dX6_settings_111 rfl (lv_at hl 2 rfl) ?_
      refine lv_iconst (v := 4) hx hb dX6_settings_112 (by decide) ?_
      refine lv_icmp_ne (tgt := 138) hx hb dX6_settings_113 (by decide) (fun c34 => ?_) (fun c34 => ?_)
      · have hw := hw.2 c34
        exact kX6_settings_b138 C hK46 hR hS (lv_sub hl [0, 1, 2, 3] rfl) hw
      · have hw := hw.1 c34
        refine lv_aload_n hx hb dX6_settings_116 rfl (lv_at hl 0 rfl) ?_
        refine x_get (ci := 5) (Cn := RX6) (T := TX6) (N := 55) (v := .ref (ad 13)) C (hR.rdX 0 rfl) rfl in_X6 13 (by decide) q1192 (fun _ h9 => h9) rfl dX6_settings_117 ?_
        refine lv_iload hx hb dX6_settings_120 (lv_at hl 4 rfl) ?_
        refine lv_dup2_11 hx hb dX6_settings_122 rfl rfl ?_
        obtain ⟨b35, hw⟩ := hw
        refine x_iald (n := 4) (f := (M 13)) C (hR.rdX 10 rfl) b35 dX6_settings_123 ?_
        refine lv_iload_n hx hb dX6_settings_124 rfl (lv_at hl 3 rfl) ?_
        refine lv_aload_n hx hb dX6_settings_125 rfl (lv_at hl 0 rfl) ?_
        refine x_get (ci := 5) (Cn := RX6) (T := TX6) (N := 55) (v := .int (F 51)) C (hR.rdX 0 rfl) rfl in_X6 51 (by decide) q1230 (fun _ h9 => h9) rfl dX6_settings_126 ?_
        refine lv_isub hx hb dX6_settings_129 ?_
        refine lv_iadd hx hb dX6_settings_130 ?_
        obtain ⟨b36, hw⟩ := hw
        refine x_iastX (n := 4) (f := (M 13)) C hR hS 10 rfl b36 (sM_a13 ..) dX6_settings_131 (fun H locs hR hS => ?_)
        refine lv_iinc (v := x4 + 1) (lv' := [(4, .int (x4 + 1)), (0, .ref (ad 1000)), (1, .int x1), (2, .int x2), (3, .int x3)]) hx hb dX6_settings_132 hl (k := 4) rfl (x_inc 1 1 (by decide)) (by decide) rfl (fun ls hl => ?_)
        refine lv_goto (tgt := 105) hx hb dX6_settings_135 (by decide) ?_
        exact hK105 _ _ _ _ _ _ _ _ _ hR hS (lv_sub hl [1, 2, 3, 4, 0] rfl) hw
def wX6_settings_b99 (post : Int32 → (Nat → Int32) → (Nat → Nat → Int32) → Prop) (K46 : (Nat → Int32) → (Nat → Nat → Int32) → Int32 → Prop)  (F : (Nat → Int32)) (M : (Nat → Nat → Int32)) (x1 : Int32) (x2 : Int32) (x3 : Int32) (s0 : Int32) : Prop :=
  ∃ n32 : Nat, wX6_settings_b105 post K46 n32 (upd F 52 s0) M x1 x2 x3 0
theorem kX6_settings_b99 {post : Int32 → (Nat → Int32) → (Nat → Nat → Int32) → Prop} {K46 : (Nat → Int32) → (Nat → Nat → Int32) → Int32 → Prop} (C : x_C p s m args meth c cX6_settings 5 (some .int) RX6 D N0 gp) (hK46 : ∀ (F : (Nat → Int32)) (M : (Nat → Nat → Int32)) (x1 : Int32) (H : Heap) (locs : List Loc) (ls : Array Slot), x_R D s N0 (fixM ad F M ++ XF) h H → va_S (x_A N0) s.heap H locs → lv_has ls 5 [(0, .ref (ad 1000)), (1, .int x1)] → K46 F M x1 → W p l e rmX6_settings s m args below meth c H locs 0 0 (MQ below (x_Qc D N0 (x_Vi (qMi ad XF h post))) args s 0 0 (x_A N0)) (F0 m 46 ls [])) {F : (Nat → Int32)} {M : (Nat → Nat → Int32)} {x1 : Int32} {x2 : Int32} {x3 : Int32} {s0 : Int32} {H : Heap} {locs : List Loc} {ls : Array Slot} (hR : x_R D s N0 (fixM ad F M ++ XF) h H) (hS : va_S (x_A N0) s.heap H locs) (hl : lv_has ls 5 [(0, .ref (ad 1000)), (1, .int x1), (2, .int x2), (3, .int x3)]) (hw : wX6_settings_b99 post K46 F M x1 x2 x3 s0) : W p l e rmX6_settings s m args below meth c H locs 0 0 (MQ below (x_Qc D N0 (x_Vi (qMi ad XF h post))) args s 0 0 (x_A N0)) (F0 m 99 ls [.int s0, .ref (ad 1000)]) := by
  obtain ⟨⟨hx, hb, hml, hown, hts⟩, hr, hlocks, hG, hN⟩ := id C
  unfold wX6_settings_b99 at hw
  refine x_putX (ci := 5) (Cn := RX6) (T := TX6) (N := 55) (v := .int s0) C hR hS 0 rfl rfl in_X6 tyX6_ok nmX6 52 (by decide) q1231 (fun _ h9 => h9) rfl rfl rfl (Nat.le_of_ble_eq_true rfl) (sM_f52 ..) dX6_settings_99 (fun H locs hR hS => ?_)
  refine lv_iconst (v := 0) hx hb dX6_settings_102 (by decide) ?_
  refine lv_istore (lv' := [(4, .int 0), (0, .ref (ad 1000)), (1, .int x1), (2, .int x2), (3, .int x3)]) hx hb dX6_settings_103 hl (by decide) rfl (fun ls hl => ?_)
  obtain ⟨n32, hw⟩ := hw
  exact kX6_settings_b105 C hK46 n32 _ _ _ _ _ _ _ _ _ hR hS (lv_sub hl [1, 2, 3, 4, 0] rfl) hw
def wX6_settings_b85 (post : Int32 → (Nat → Int32) → (Nat → Nat → Int32) → Prop) (K46 : (Nat → Int32) → (Nat → Nat → Int32) → Int32 → Prop)  (F : (Nat → Int32)) (M : (Nat → Nat → Int32)) (x1 : Int32) (x2 : Int32) (x3 : Int32) : Prop :=
  (x2 = 5 → wX6_settings_b99 post K46 F M x1 x2 x3 x3) ∧ (¬ x2 = 5 → wX6_settings_b99 post K46 F M x1 x2 x3 (F 52))
theorem kX6_settings_b85 {post : Int32 → (Nat → Int32) → (Nat → Nat → Int32) → Prop} {K46 : (Nat → Int32) → (Nat → Nat → Int32) → Int32 → Prop} (C : x_C p s m args meth c cX6_settings 5 (some .int) RX6 D N0 gp) (hK46 : ∀ (F : (Nat → Int32)) (M : (Nat → Nat → Int32)) (x1 : Int32) (H : Heap) (locs : List Loc) (ls : Array Slot), x_R D s N0 (fixM ad F M ++ XF) h H → va_S (x_A N0) s.heap H locs → lv_has ls 5 [(0, .ref (ad 1000)), (1, .int x1)] → K46 F M x1 → W p l e rmX6_settings s m args below meth c H locs 0 0 (MQ below (x_Qc D N0 (x_Vi (qMi ad XF h post))) args s 0 0 (x_A N0)) (F0 m 46 ls [])) {F : (Nat → Int32)} {M : (Nat → Nat → Int32)} {x1 : Int32} {x2 : Int32} {x3 : Int32} {H : Heap} {locs : List Loc} {ls : Array Slot} (hR : x_R D s N0 (fixM ad F M ++ XF) h H) (hS : va_S (x_A N0) s.heap H locs) (hl : lv_has ls 5 [(0, .ref (ad 1000)), (1, .int x1), (2, .int x2), (3, .int x3)]) (hw : wX6_settings_b85 post K46 F M x1 x2 x3) : W p l e rmX6_settings s m args below meth c H locs 0 0 (MQ below (x_Qc D N0 (x_Vi (qMi ad XF h post))) args s 0 0 (x_A N0)) (F0 m 85 ls []) := by
  obtain ⟨⟨hx, hb, hml, hown, hts⟩, hr, hlocks, hG, hN⟩ := id C
  unfold wX6_settings_b85 at hw
  refine lv_aload_n hx hb dX6_settings_85 rfl (lv_at hl 0 rfl) ?_
  refine lv_iload_n hx hb dX6_settings_86 rfl (lv_at hl 2 rfl) ?_
  refine lv_iconst (v := 5) hx hb dX6_settings_87 (by decide) ?_
  refine lv_icmp_ne (tgt := 95) hx hb dX6_settings_88 (by decide) (fun c31 => ?_) (fun c31 => ?_)
  · have hw := hw.2 c31
    refine lv_aload_n hx hb dX6_settings_95 rfl (lv_at hl 0 rfl) ?_
    refine x_get (ci := 5) (Cn := RX6) (T := TX6) (N := 55) (v := .int (F 52)) C (hR.rdX 0 rfl) rfl in_X6 52 (by decide) q1231 (fun _ h9 => h9) rfl dX6_settings_96 ?_
    exact kX6_settings_b99 C hK46 hR hS (lv_sub hl [0, 1, 2, 3] rfl) hw
  · have hw := hw.1 c31
    refine lv_iload_n hx hb dX6_settings_91 rfl (lv_at hl 3 rfl) ?_
    refine lv_goto (tgt := 99) hx hb dX6_settings_92 (by decide) ?_
    exact kX6_settings_b99 C hK46 hR hS (lv_sub hl [0, 1, 2, 3] rfl) hw
def wX6_settings_b161 (post : Int32 → (Nat → Int32) → (Nat → Nat → Int32) → Prop)  (F : (Nat → Int32)) (M : (Nat → Nat → Int32)) : Prop :=
  wX6_head (fun F38 M38 => post 0 F38 M38) 0 4 1 0 F M
theorem kX6_settings_b161 {post : Int32 → (Nat → Int32) → (Nat → Nat → Int32) → Prop} (C : x_C p s m args meth c cX6_settings 5 (some .int) RX6 D N0 gp) {F : (Nat → Int32)} {M : (Nat → Nat → Int32)} {H : Heap} {locs : List Loc} {ls : Array Slot} (hR : x_R D s N0 (fixM ad F M ++ XF) h H) (hS : va_S (x_A N0) s.heap H locs) (hl : lv_has ls 5 [(0, .ref (ad 1000))]) (hw : wX6_settings_b161 post F M) : W p l e rmX6_settings s m args below meth c H locs 0 0 (MQ below (x_Qc D N0 (x_Vi (qMi ad XF h post))) args s 0 0 (x_A N0)) (F0 m 161 ls []) := by
  obtain ⟨⟨hx, hb, hml, hown, hts⟩, hr, hlocks, hG, hN⟩ := id C
  unfold wX6_settings_b161 at hw
  refine lv_aload_n hx hb dX6_settings_161 rfl (lv_at hl 0 rfl) ?_
  refine lv_iconst (v := 0) hx hb dX6_settings_162 (by decide) ?_
  refine lv_iconst (v := 4) hx hb dX6_settings_163 (by decide) ?_
  refine lv_iconst (v := 1) hx hb dX6_settings_164 (by decide) ?_
  refine lv_iconst (v := 0) hx hb dX6_settings_165 (by decide) ?_
  refine x_callv0 (x_runV (n := 4) (As := [.int 0, .int 4, .int 1, .int 0]) C hR hS (kX6_head l D N0 gp ad XF _ 0 4 1 0 F M _ hw) (lw_V q1171 q1173 qs40 q104 q1174) rfl rfl (by decide +kernel) ⟨Nat.le_of_ble_eq_true rfl, Nat.le_of_ble_eq_true rfl⟩ (x_recv C (hR.rdX 0 rfl) rfl) rfl hl.1 rfl (Nat.le_of_ble_eq_true rfl) dX6_settings_166 ⟨Nat.le_refl _, Nat.le_refl _⟩) hS (fun X1 h1 H locs hq hR hS => ?_)
  obtain ⟨F38, M38, e1, e2, hw⟩ := hq
  rw [e1, e2] at hR
  refine lv_iconst (v := 0) hx hb dX6_settings_169 (by decide) ?_
  exact x_endi C hR hS ⟨_, rfl, ⟨_, _, rfl, rfl, hw⟩⟩ (Nat.le_refl _) (Nat.le_refl _) dX6_settings_170
def tX6_settings_b46 (post : Int32 → (Nat → Int32) → (Nat → Nat → Int32) → Prop) (K46 : (Nat → Int32) → (Nat → Nat → Int32) → Int32 → Prop)  (F : (Nat → Int32)) (M : (Nat → Nat → Int32)) (x1 : Int32) : Prop :=
  ((F 28) ≤ x1 → wX6_settings_b161 post F M) ∧ (¬ (F 28) ≤ x1 → vp_in ((4 : Int32) + x1) 204 ∧ vp_in ((5 : Int32) + x1) 204 ∧ (((M 24) ((4 : Int32) + x1).toNatClampNeg) = 5 → ((16 : Int32) ≤ ((M 24) ((5 : Int32) + x1).toNatClampNeg) → wX6_settings_b85 post K46 F M x1 ((M 24) ((4 : Int32) + x1).toNatClampNeg) ((M 24) ((5 : Int32) + x1).toNatClampNeg)) ∧ (¬ (16 : Int32) ≤ ((M 24) ((5 : Int32) + x1).toNatClampNeg) → post 1 F M)) ∧ (¬ ((M 24) ((4 : Int32) + x1).toNatClampNeg) = 5 → wX6_settings_b85 post K46 F M x1 ((M 24) ((4 : Int32) + x1).toNatClampNeg) ((M 24) ((5 : Int32) + x1).toNatClampNeg)))
def wX6_settings_b46 (post : Int32 → (Nat → Int32) → (Nat → Nat → Int32) → Prop)  : Nat → (Nat → Int32) → (Nat → Nat → Int32) → Int32 → Prop
  | 0 => fun _ _ _ => False
  | n + 1 => fun F M x1 => tX6_settings_b46 post (wX6_settings_b46 post n)  F M x1
theorem kX6_settings_b46 {post : Int32 → (Nat → Int32) → (Nat → Nat → Int32) → Prop} (C : x_C p s m args meth c cX6_settings 5 (some .int) RX6 D N0 gp) : ∀ (nn : Nat) (F : (Nat → Int32)) (M : (Nat → Nat → Int32)) (x1 : Int32) (H : Heap) (locs : List Loc) (ls : Array Slot), x_R D s N0 (fixM ad F M ++ XF) h H → va_S (x_A N0) s.heap H locs → lv_has ls 5 [(0, .ref (ad 1000)), (1, .int x1)] → wX6_settings_b46 post nn F M x1 → W p l e rmX6_settings s m args below meth c H locs 0 0 (MQ below (x_Qc D N0 (x_Vi (qMi ad XF h post))) args s 0 0 (x_A N0)) (F0 m 46 ls []) := by
  obtain ⟨⟨hx, hb, hml, hown, hts⟩, hr, hlocks, hG, hN⟩ := id C
  intro nn
  induction nn with
  | zero =>
    intro F M x1 H locs ls hR hS hl hw
    exact False.elim hw
  | succ nn ih =>
    intro F M x1 H locs ls hR hS hl hw
    have hK46 := ih
    have hw : tX6_settings_b46 post (wX6_settings_b46 post nn)  F M x1 := hw
    unfold tX6_settings_b46 at hw
    refine lv_iload_n hx hb dX6_settings_46 rfl (lv_at hl 1 rfl) ?_
    refine lv_aload_n hx hb dX6_settings_47 rfl (lv_at hl 0 rfl) ?_
    refine x_get (ci := 5) (Cn := RX6) (T := TX6) (N := 55) (v := .int (F 28)) C (hR.rdX 0 rfl) rfl in_X6 28 (by decide) q1207 (fun _ h9 => h9) rfl dX6_settings_48 ?_
    refine lv_icmp_ge (tgt := 161) hx hb dX6_settings_51 (by decide) (fun c26 => ?_) (fun c26 => ?_)
    · have hw := hw.1 c26
      exact kX6_settings_b161 C hR hS (lv_sub hl [0] rfl) hw
    · have hw := hw.2 c26
      refine lv_aload_n hx hb dX6_settings_54 rfl (lv_at hl 0 rfl) ?_
      refine x_get (ci := 5) (Cn := RX6) (T := TX6) (N := 55) (v := .ref (ad 24)) C (hR.rdX 0 rfl) rfl in_X6 24 (by decide) q1203 (fun _ h9 => h9) rfl dX6_settings_55 ?_
      refine lv_iconst (v := 4) hx hb dX6_settings_58 (by decide) ?_
      refine lv_iload_n hx hb dX6_settings_59 rfl (lv_at hl 1 rfl) ?_
      refine lv_iadd hx hb dX6_settings_60 ?_
      obtain ⟨b27, hw⟩ := hw
      refine x_iald (n := 204) (f := (M 24)) C (hR.rdX 19 rfl) b27 dX6_settings_61 ?_
      refine lv_istore_n (lv' := [(2, .int ((M 24) ((4 : Int32) + x1).toNatClampNeg)), (0, .ref (ad 1000)), (1, .int x1)]) hx hb dX6_settings_62 rfl hl (by decide) rfl (fun ls hl => ?_)
      refine lv_aload_n hx hb dX6_settings_63 rfl (lv_at hl 1 rfl) ?_
      refine x_get (ci := 5) (Cn := RX6) (T := TX6) (N := 55) (v := .ref (ad 24)) C (hR.rdX 0 rfl) rfl in_X6 24 (by decide) q1203 (fun _ h9 => h9) rfl dX6_settings_64 ?_
      refine lv_iconst (v := 5) hx hb dX6_settings_67 (by decide) ?_
      refine lv_iload_n hx hb dX6_settings_68 rfl (lv_at hl 2 rfl) ?_
      refine lv_iadd hx hb dX6_settings_69 ?_
      obtain ⟨b28, hw⟩ := hw
      refine x_iald (n := 204) (f := (M 24)) C (hR.rdX 19 rfl) b28 dX6_settings_70 ?_
      refine lv_istore_n (lv' := [(3, .int ((M 24) ((5 : Int32) + x1).toNatClampNeg)), (2, .int ((M 24) ((4 : Int32) + x1).toNatClampNeg)), (0, .ref (ad 1000)), (1, .int x1)]) hx hb dX6_settings_71 rfl hl (by decide) rfl (fun ls hl => ?_)
      refine lv_iload_n hx hb dX6_settings_72 rfl (lv_at hl 1 rfl) ?_
      refine lv_iconst (v := 5) hx hb dX6_settings_73 (by decide) ?_
      refine lv_icmp_ne (tgt := 85) hx hb dX6_settings_74 (by decide) (fun c29 => ?_) (fun c29 => ?_)
      · have hw := hw.2 c29
        exact kX6_settings_b85 C hK46 hR hS (lv_sub hl [2, 3, 1, 0] rfl) hw
      · have hw := hw.1 c29
        refine lv_iload_n hx hb dX6_settings_77 rfl (lv_at hl 0 rfl) ?_
        refine lv_bipush (v := 16) hx hb dX6_settings_78 (by decide) ?_
        refine lv_icmp_ge (tgt := 85) hx hb dX6_settings_80 (by decide) (fun c30 => ?_) (fun c30 => ?_)
        · have hw := hw.1 c30
          exact kX6_settings_b85 C hK46 hR hS (lv_sub hl [2, 3, 1, 0] rfl) hw
        · have hw := hw.2 c30
          refine lv_iconst (v := 1) hx hb dX6_settings_83 (by decide) ?_
          exact x_endi C hR hS ⟨_, rfl, ⟨_, _, rfl, rfl, hw⟩⟩ (Nat.le_refl _) (Nat.le_refl _) dX6_settings_84
end
def wX6_settings (post : Int32 → (Nat → Int32) → (Nat → Nat → Int32) → Prop)  (F : (Nat → Int32)) (M : (Nat → Nat → Int32)) : Prop :=
  ((F 27) ≤ 0 → wX6_has (fun r21 => (r21 = 0 → (((F 28) - (F 28) / 2 * 2) = 1 → post 6 F M) ∧ (¬ ((F 28) - (F 28) / 2 * 2) = 1 → ∃ n24 : Nat, wX6_settings_b46 post n24 F M 0)) ∧ (¬ r21 = 0 → ((F 28) ≤ 0 → wX6_settings_b30 post F M 0) ∧ (¬ (F 28) ≤ 0 → wX6_settings_b30 post F M 6))) 1 F M) ∧ (¬ (F 27) ≤ 0 → post 1 F M)
theorem kX6_settings (l : Launch) (D : va_G) (N0 : Nat) (gp : Nat → Nat) (ad : Nat → Nat) (XF : x_X) (h : x_H)  (F : (Nat → Int32)) (M : (Nat → Nat → Int32)) (post : Int32 → (Nat → Int32) → (Nat → Nat → Int32) → Prop) (hw : wX6_settings post  F M) : Met l yX6_settings (ws_ yX6_settings cX6_settings 5 (some .int)) rmX6_settings (x_Pc D N0 gp (fixM ad F M ++ XF) h [.ref (ad 1000)]) (x_Qc D N0 (x_Vi (qMi ad XF h post))) 0 0 (x_A N0) := by
  refine x_start (lv := [(0, .ref (ad 1000))]) (by decide) rfl (Nat.le_of_ble_eq_true rfl) rfl ?_
  intro p e s m below meth c C hR ls hl
  have hS : va_S (x_A N0) s.heap s.heap [] := va_S.rf
  obtain ⟨⟨hx, hb, hml, hown, hts⟩, hr, hlocks, hG, hN⟩ := id C
  unfold wX6_settings at hw
  refine lv_aload_n hx hb dX6_settings_0 rfl (lv_at hl 0 rfl) ?_
  refine x_get (ci := 5) (Cn := RX6) (T := TX6) (N := 55) (v := .int (F 27)) C (hR.rdX 0 rfl) rfl in_X6 27 (by decide) q1206 (fun _ h9 => h9) rfl dX6_settings_1 ?_
  refine lv_if_le (tgt := 9) hx hb dX6_settings_4 (by decide) (fun c20 => ?_) (fun c20 => ?_)
  · have hw := hw.1 c20
    refine lv_aload_n hx hb dX6_settings_9 rfl (lv_at hl 0 rfl) ?_
    refine lv_iconst (v := 1) hx hb dX6_settings_10 (by decide) ?_
    refine x_calli0 (x_runV (n := 1) (As := [.int 1]) C hR hS (kX6_has l D N0 gp ad XF _ 1 F M _ hw) (lw_V q1407 q1409 qs50 q104 q1410) rfl rfl (by decide +kernel) ⟨Nat.le_of_ble_eq_true rfl, Nat.le_of_ble_eq_true rfl⟩ (x_recv C (hR.rdX 0 rfl) rfl) rfl hl.1 rfl (Nat.le_of_ble_eq_true rfl) dX6_settings_11 ⟨Nat.le_refl _, Nat.le_refl _⟩) hS (fun r21 X1 h1 H locs hq hR hS => ?_)
    obtain ⟨e1, e2, hw⟩ := hq
    rw [e1, e2] at hR
    refine lv_if_eq (tgt := 31) hx hb dX6_settings_14 (by decide) (fun c22 => ?_) (fun c22 => ?_)
    · have hw := hw.1 c22
      refine lv_aload_n hx hb dX6_settings_31 rfl (lv_at hl 0 rfl) ?_
      refine x_get (ci := 5) (Cn := RX6) (T := TX6) (N := 55) (v := .int (F 28)) C (hR.rdX 0 rfl) rfl in_X6 28 (by decide) q1207 (fun _ h9 => h9) rfl dX6_settings_32 ?_
      refine lv_iconst (v := 2) hx hb dX6_settings_35 (by decide) ?_
      refine lv_irem hx hb dX6_settings_36 (by decide) ?_
      refine lv_iconst (v := 1) hx hb dX6_settings_37 (by decide) ?_
      refine lv_icmp_ne (tgt := 44) hx hb dX6_settings_38 (by decide) (fun c23 => ?_) (fun c23 => ?_)
      · have hw := hw.2 c23
        refine lv_iconst (v := 0) hx hb dX6_settings_44 (by decide) ?_
        refine lv_istore_n (lv' := [(1, .int 0), (0, .ref (ad 1000))]) hx hb dX6_settings_45 rfl hl (by decide) rfl (fun ls hl => ?_)
        obtain ⟨n24, hw⟩ := hw
        exact kX6_settings_b46 C n24 _ _ _ _ _ _ hR hS (lv_sub hl [1, 0] rfl) hw
      · have hw := hw.1 c23
        refine lv_bipush (v := 6) hx hb dX6_settings_41 (by decide) ?_
        exact x_endi C hR hS ⟨_, rfl, ⟨_, _, rfl, rfl, hw⟩⟩ (Nat.le_refl _) (Nat.le_refl _) dX6_settings_43
    · have hw := hw.2 c22
      refine lv_aload_n hx hb dX6_settings_17 rfl (lv_at hl 0 rfl) ?_
      refine x_get (ci := 5) (Cn := RX6) (T := TX6) (N := 55) (v := .int (F 28)) C (hR.rdX 0 rfl) rfl in_X6 28 (by decide) q1207 (fun _ h9 => h9) rfl dX6_settings_18 ?_
      refine lv_if_le (tgt := 29) hx hb dX6_settings_21 (by decide) (fun c25 => ?_) (fun c25 => ?_)
      · have hw := hw.1 c25
        refine lv_iconst (v := 0) hx hb dX6_settings_29 (by decide) ?_
        exact kX6_settings_b30 C hR hS (lv_sub hl [] rfl) hw
      · have hw := hw.2 c25
        refine lv_bipush (v := 6) hx hb dX6_settings_24 (by decide) ?_
        refine lv_goto (tgt := 30) hx hb dX6_settings_26 (by decide) ?_
        exact kX6_settings_b30 C hR hS (lv_sub hl [] rfl) hw
  · have hw := hw.2 c20
    refine lv_iconst (v := 1) hx hb dX6_settings_7 (by decide) ?_
    exact x_endi C hR hS ⟨_, rfl, ⟨_, _, rfl, rfl, hw⟩⟩ (Nat.le_refl _) (Nat.le_refl _) dX6_settings_8
/-- PageServerModel.ping()I -/
abbrev rmX6_ping : Room := { frames := 2, cells := 0, slots := 0, locals := 45 }
section
variable {p : Program} {l : Launch} {e : Env} {s : State} {m : MethodId} {args : Array Value} {below : List Frame} {meth : Method} {c : Code} {D : va_G} {N0 : Nat} {gp : Nat → Nat} {ad : Nat → Nat} {XF : x_X} {h : x_H}
def wX6_ping_b64 (post : Int32 → (Nat → Int32) → (Nat → Nat → Int32) → Prop)  (F : (Nat → Int32)) (M : (Nat → Nat → Int32)) : Prop :=
  post 0 F M
theorem kX6_ping_b64 {post : Int32 → (Nat → Int32) → (Nat → Nat → Int32) → Prop} (C : x_C p s m args meth c cX6_ping 2 (some .int) RX6 D N0 gp) {F : (Nat → Int32)} {M : (Nat → Nat → Int32)} {H : Heap} {locs : List Loc} {ls : Array Slot} (hR : x_R D s N0 (fixM ad F M ++ XF) h H) (hS : va_S (x_A N0) s.heap H locs) (hl : lv_has ls 2 []) (hw : wX6_ping_b64 post F M) : W p l e rmX6_ping s m args below meth c H locs 0 0 (MQ below (x_Qc D N0 (x_Vi (qMi ad XF h post))) args s 0 0 (x_A N0)) (F0 m 64 ls []) := by
  obtain ⟨⟨hx, hb, hml, hown, hts⟩, hr, hlocks, hG, hN⟩ := id C
  unfold wX6_ping_b64 at hw
  refine lv_iconst (v := 0) hx hb dX6_ping_64 (by decide) ?_
  exact x_endi C hR hS ⟨_, rfl, ⟨_, _, rfl, rfl, hw⟩⟩ (Nat.le_refl _) (Nat.le_refl _) dX6_ping_65
def tX6_ping_b41 (post : Int32 → (Nat → Int32) → (Nat → Nat → Int32) → Prop) (K41 : (Nat → Int32) → (Nat → Nat → Int32) → Int32 → Prop)  (F : (Nat → Int32)) (M : (Nat → Nat → Int32)) (x1 : Int32) : Prop :=
  ((4 : Int32) ≤ x1 → wX6_ping_b64 post F M) ∧ (¬ (4 : Int32) ≤ x1 → vp_in ((4 : Int32) + x1) 204 ∧ wX6_say (fun F18 M18 => K41 F18 M18 (x1 + 1)) ((M 24) ((4 : Int32) + x1).toNatClampNeg) F M)
def wX6_ping_b41 (post : Int32 → (Nat → Int32) → (Nat → Nat → Int32) → Prop)  : Nat → (Nat → Int32) → (Nat → Nat → Int32) → Int32 → Prop
  | 0 => fun _ _ _ => False
  | n + 1 => fun F M x1 => tX6_ping_b41 post (wX6_ping_b41 post n)  F M x1
theorem kX6_ping_b41 {post : Int32 → (Nat → Int32) → (Nat → Nat → Int32) → Prop} (C : x_C p s m args meth c cX6_ping 2 (some .int) RX6 D N0 gp) : ∀ (nn : Nat) (F : (Nat → Int32)) (M : (Nat → Nat → Int32)) (x1 : Int32) (H : Heap) (locs : List Loc) (ls : Array Slot), x_R D s N0 (fixM ad F M ++ XF) h H → va_S (x_A N0) s.heap H locs → lv_has ls 2 [(0, .ref (ad 1000)), (1, .int x1)] → wX6_ping_b41 post nn F M x1 → W p l e rmX6_ping s m args below meth c H locs 0 0 (MQ below (x_Qc D N0 (x_Vi (qMi ad XF h post))) args s 0 0 (x_A N0)) (F0 m 41 ls []) := by
  obtain ⟨⟨hx, hb, hml, hown, hts⟩, hr, hlocks, hG, hN⟩ := id C
  intro nn
  induction nn with
  | zero =>
    intro F M x1 H locs ls hR hS hl hw
    exact False.elim hw
  | succ nn ih =>
    intro F M x1 H locs ls hR hS hl hw
    have hK41 := ih
    have hw : tX6_ping_b41 post (wX6_ping_b41 post nn)  F M x1 := hw
    unfold tX6_ping_b41 at hw
    refine lv_iload_n hx hb dX6_ping_41 rfl (lv_at hl 1 rfl) ?_
    refine lv_iconst (v := 4) hx hb dX6_ping_42 (by decide) ?_
    refine lv_icmp_ge (tgt := 64) hx hb dX6_ping_43 (by decide) (fun c16 => ?_) (fun c16 => ?_)
    · have hw := hw.1 c16
      exact kX6_ping_b64 C hR hS (lv_sub hl [] rfl) hw
    · have hw := hw.2 c16
      refine lv_aload_n hx hb dX6_ping_46 rfl (lv_at hl 0 rfl) ?_
      refine lv_aload_n hx hb dX6_ping_47 rfl (lv_at hl 0 rfl) ?_
      refine x_get (ci := 5) (Cn := RX6) (T := TX6) (N := 55) (v := .ref (ad 24)) C (hR.rdX 0 rfl) rfl in_X6 24 (by decide) q1203 (fun _ h9 => h9) rfl dX6_ping_48 ?_
      refine lv_iconst (v := 4) hx hb dX6_ping_51 (by decide) ?_
      refine lv_iload_n hx hb dX6_ping_52 rfl (lv_at hl 1 rfl) ?_
      refine lv_iadd hx hb dX6_ping_53 ?_
      obtain ⟨b17, hw⟩ := hw
      refine x_iald (n := 204) (f := (M 24)) C (hR.rdX 19 rfl) b17 dX6_ping_54 ?_
      refine x_callv0 (x_runV (n := 1) (As := [.int ((M 24) ((4 : Int32) + x1).toNatClampNeg)]) C hR hS (kX6_say l D N0 gp ad XF _ ((M 24) ((4 : Int32) + x1).toNatClampNeg) F M _ hw) (lw_V q1175 q1177 qs41 q104 q1178) rfl rfl (by decide +kernel) ⟨Nat.le_of_ble_eq_true rfl, Nat.le_of_ble_eq_true rfl⟩ (x_recv C (hR.rdX 0 rfl) rfl) rfl hl.1 rfl (Nat.le_of_ble_eq_true rfl) dX6_ping_55 ⟨Nat.le_refl _, Nat.le_refl _⟩) hS (fun X1 h1 H locs hq hR hS => ?_)
      obtain ⟨F18, M18, e1, e2, hw⟩ := hq
      rw [e1, e2] at hR
      refine lv_iinc (v := x1 + 1) (lv' := [(1, .int (x1 + 1)), (0, .ref (ad 1000))]) hx hb dX6_ping_58 hl (k := 1) rfl (x_inc 1 1 (by decide)) (by decide) rfl (fun ls hl => ?_)
      refine lv_goto (tgt := 41) hx hb dX6_ping_61 (by decide) ?_
      exact hK41 _ _ _ _ _ _ hR hS (lv_sub hl [1, 0] rfl) hw
end
def wX6_ping (post : Int32 → (Nat → Int32) → (Nat → Nat → Int32) → Prop)  (F : (Nat → Int32)) (M : (Nat → Nat → Int32)) : Prop :=
  ((F 27) ≤ 0 → ((F 28) = 4 → wX6_has (fun r12 => (r12 = 0 → wX6_head (fun F14 M14 => ∃ n15 : Nat, wX6_ping_b41 post n15 F14 M14 0) 4 6 1 0 F M) ∧ (¬ r12 = 0 → post 0 F M)) 1 F M) ∧ (¬ (F 28) = 4 → post 6 F M)) ∧ (¬ (F 27) ≤ 0 → post 1 F M)
theorem kX6_ping (l : Launch) (D : va_G) (N0 : Nat) (gp : Nat → Nat) (ad : Nat → Nat) (XF : x_X) (h : x_H)  (F : (Nat → Int32)) (M : (Nat → Nat → Int32)) (post : Int32 → (Nat → Int32) → (Nat → Nat → Int32) → Prop) (hw : wX6_ping post  F M) : Met l yX6_ping (ws_ yX6_ping cX6_ping 2 (some .int)) rmX6_ping (x_Pc D N0 gp (fixM ad F M ++ XF) h [.ref (ad 1000)]) (x_Qc D N0 (x_Vi (qMi ad XF h post))) 0 0 (x_A N0) := by
  refine x_start (lv := [(0, .ref (ad 1000))]) (by decide) rfl (Nat.le_of_ble_eq_true rfl) rfl ?_
  intro p e s m below meth c C hR ls hl
  have hS : va_S (x_A N0) s.heap s.heap [] := va_S.rf
  obtain ⟨⟨hx, hb, hml, hown, hts⟩, hr, hlocks, hG, hN⟩ := id C
  unfold wX6_ping at hw
  refine lv_aload_n hx hb dX6_ping_0 rfl (lv_at hl 0 rfl) ?_
  refine x_get (ci := 5) (Cn := RX6) (T := TX6) (N := 55) (v := .int (F 27)) C (hR.rdX 0 rfl) rfl in_X6 27 (by decide) q1206 (fun _ h9 => h9) rfl dX6_ping_1 ?_
  refine lv_if_le (tgt := 9) hx hb dX6_ping_4 (by decide) (fun c10 => ?_) (fun c10 => ?_)
  · have hw := hw.1 c10
    refine lv_aload_n hx hb dX6_ping_9 rfl (lv_at hl 0 rfl) ?_
    refine x_get (ci := 5) (Cn := RX6) (T := TX6) (N := 55) (v := .int (F 28)) C (hR.rdX 0 rfl) rfl in_X6 28 (by decide) q1207 (fun _ h9 => h9) rfl dX6_ping_10 ?_
    refine lv_iconst (v := 4) hx hb dX6_ping_13 (by decide) ?_
    refine lv_icmp_eq (tgt := 20) hx hb dX6_ping_14 (by decide) (fun c11 => ?_) (fun c11 => ?_)
    · have hw := hw.1 c11
      refine lv_aload_n hx hb dX6_ping_20 rfl (lv_at hl 0 rfl) ?_
      refine lv_iconst (v := 1) hx hb dX6_ping_21 (by decide) ?_
      refine x_calli0 (x_runV (n := 1) (As := [.int 1]) C hR hS (kX6_has l D N0 gp ad XF _ 1 F M _ hw) (lw_V q1407 q1409 qs50 q104 q1410) rfl rfl (by decide +kernel) ⟨Nat.le_of_ble_eq_true rfl, Nat.le_of_ble_eq_true rfl⟩ (x_recv C (hR.rdX 0 rfl) rfl) rfl hl.1 rfl (Nat.le_of_ble_eq_true rfl) dX6_ping_22 ⟨Nat.le_refl _, Nat.le_refl _⟩) hS (fun r12 X1 h1 H locs hq hR hS => ?_)
      obtain ⟨e1, e2, hw⟩ := hq
      rw [e1, e2] at hR
      refine lv_if_eq (tgt := 30) hx hb dX6_ping_25 (by decide) (fun c13 => ?_) (fun c13 => ?_)
      · have hw := hw.1 c13
        refine lv_aload_n hx hb dX6_ping_30 rfl (lv_at hl 0 rfl) ?_
        refine lv_iconst (v := 4) hx hb dX6_ping_31 (by decide) ?_
        refine lv_bipush (v := 6) hx hb dX6_ping_32 (by decide) ?_
        refine lv_iconst (v := 1) hx hb dX6_ping_34 (by decide) ?_
        refine lv_iconst (v := 0) hx hb dX6_ping_35 (by decide) ?_
        refine x_callv0 (x_runV (n := 4) (As := [.int 4, .int 6, .int 1, .int 0]) C hR hS (kX6_head l D N0 gp ad XF _ 4 6 1 0 F M _ hw) (lw_V q1171 q1173 qs40 q104 q1174) rfl rfl (by decide +kernel) ⟨Nat.le_of_ble_eq_true rfl, Nat.le_of_ble_eq_true rfl⟩ (x_recv C (hR.rdX 0 rfl) rfl) rfl hl.1 rfl (Nat.le_of_ble_eq_true rfl) dX6_ping_36 ⟨Nat.le_refl _, Nat.le_refl _⟩) hS (fun X1 h1 H locs hq hR hS => ?_)
        obtain ⟨F14, M14, e1, e2, hw⟩ := hq
        rw [e1, e2] at hR
        refine lv_iconst (v := 0) hx hb dX6_ping_39 (by decide) ?_
        refine lv_istore_n (lv' := [(1, .int 0), (0, .ref (ad 1000))]) hx hb dX6_ping_40 rfl hl (by decide) rfl (fun ls hl => ?_)
        obtain ⟨n15, hw⟩ := hw
        exact kX6_ping_b41 C n15 _ _ _ _ _ _ hR hS (lv_sub hl [1, 0] rfl) hw
      · have hw := hw.2 c13
        refine lv_iconst (v := 0) hx hb dX6_ping_28 (by decide) ?_
        exact x_endi C hR hS ⟨_, rfl, ⟨_, _, rfl, rfl, hw⟩⟩ (Nat.le_refl _) (Nat.le_refl _) dX6_ping_29
    · have hw := hw.2 c11
      refine lv_bipush (v := 6) hx hb dX6_ping_17 (by decide) ?_
      exact x_endi C hR hS ⟨_, rfl, ⟨_, _, rfl, rfl, hw⟩⟩ (Nat.le_refl _) (Nat.le_refl _) dX6_ping_19
  · have hw := hw.2 c10
    refine lv_iconst (v := 1) hx hb dX6_ping_7 (by decide) ?_
    exact x_endi C hR hS ⟨_, rfl, ⟨_, _, rfl, rfl, hw⟩⟩ (Nat.le_refl _) (Nat.le_refl _) dX6_ping_8
/-- PageServerModel.widen()I -/
abbrev rmX6_widen : Room := { frames := 1, cells := 0, slots := 0, locals := 23 }
section
variable {p : Program} {l : Launch} {e : Env} {s : State} {m : MethodId} {args : Array Value} {below : List Frame} {meth : Method} {c : Code} {D : va_G} {N0 : Nat} {gp : Nat → Nat} {ad : Nat → Nat} {XF : x_X} {h : x_H}
def wX6_widen_b153 (post : Int32 → (Nat → Int32) → (Nat → Nat → Int32) → Prop)  (F : (Nat → Int32)) (M : (Nat → Nat → Int32)) : Prop :=
  post 0 F M
theorem kX6_widen_b153 {post : Int32 → (Nat → Int32) → (Nat → Nat → Int32) → Prop} (C : x_C p s m args meth c cX6_widen 5 (some .int) RX6 D N0 gp) {F : (Nat → Int32)} {M : (Nat → Nat → Int32)} {H : Heap} {locs : List Loc} {ls : Array Slot} (hR : x_R D s N0 (fixM ad F M ++ XF) h H) (hS : va_S (x_A N0) s.heap H locs) (hl : lv_has ls 5 []) (hw : wX6_widen_b153 post F M) : W p l e rmX6_widen s m args below meth c H locs 0 0 (MQ below (x_Qc D N0 (x_Vi (qMi ad XF h post))) args s 0 0 (x_A N0)) (F0 m 153 ls []) := by
  obtain ⟨⟨hx, hb, hml, hown, hts⟩, hr, hlocks, hG, hN⟩ := id C
  unfold wX6_widen_b153 at hw
  refine lv_iconst (v := 0) hx hb dX6_widen_153 (by decide) ?_
  exact x_endi C hR hS ⟨_, rfl, ⟨_, _, rfl, rfl, hw⟩⟩ (Nat.le_refl _) (Nat.le_refl _) dX6_widen_154
def wX6_widen_b99 (post : Int32 → (Nat → Int32) → (Nat → Nat → Int32) → Prop)  (F : (Nat → Int32)) (M : (Nat → Nat → Int32)) (x1 : Int32) (x2 : Int32) (x3 : Int32) (s0 : Int32) : Prop :=
  (x1 = 0 → post (x3 + 1) F M) ∧ (¬ x1 = 0 → ((s0 + x1) ≤ 30000 → ((F 27) ≤ 0 → wX6_widen_b153 post (upd F 50 ((F 50) + x1)) M) ∧ (¬ (F 27) ≤ 0 → vp_in x2 4 ∧ vp_in x2 4 ∧ wX6_widen_b153 post F (va_up M 13 (upd (M 13) x2.toNatClampNeg (((M 13) x2.toNatClampNeg) + x1))))) ∧ (¬ (s0 + x1) ≤ 30000 → post (x3 + 3) F M))
theorem kX6_widen_b99 {post : Int32 → (Nat → Int32) → (Nat → Nat → Int32) → Prop} (C : x_C p s m args meth c cX6_widen 5 (some .int) RX6 D N0 gp) {F : (Nat → Int32)} {M : (Nat → Nat → Int32)} {x1 : Int32} {x2 : Int32} {x3 : Int32} {s0 : Int32} {H : Heap} {locs : List Loc} {ls : Array Slot} (hR : x_R D s N0 (fixM ad F M ++ XF) h H) (hS : va_S (x_A N0) s.heap H locs) (hl : lv_has ls 5 [(0, .ref (ad 1000)), (1, .int x1), (2, .int x2), (3, .int x3)]) (hw : wX6_widen_b99 post F M x1 x2 x3 s0) : W p l e rmX6_widen s m args below meth c H locs 0 0 (MQ below (x_Qc D N0 (x_Vi (qMi ad XF h post))) args s 0 0 (x_A N0)) (F0 m 99 ls [.int s0]) := by
  obtain ⟨⟨hx, hb, hml, hown, hts⟩, hr, hlocks, hG, hN⟩ := id C
  unfold wX6_widen_b99 at hw
  refine lv_istore (lv' := [(4, .int s0), (0, .ref (ad 1000)), (1, .int x1), (2, .int x2), (3, .int x3)]) hx hb dX6_widen_99 hl (by decide) rfl (fun ls hl => ?_)
  refine lv_iload_n hx hb dX6_widen_101 rfl (lv_at hl 2 rfl) ?_
  refine lv_if_ne (tgt := 109) hx hb dX6_widen_102 (by decide) (fun c24 => ?_) (fun c24 => ?_)
  · have hw := hw.2 c24
    refine lv_iload hx hb dX6_widen_109 (lv_at hl 0 rfl) ?_
    refine lv_iload_n hx hb dX6_widen_111 rfl (lv_at hl 2 rfl) ?_
    refine lv_iadd hx hb dX6_widen_112 ?_
    refine lv_sipush (v := 30000) hx hb dX6_widen_113 (by decide) ?_
    refine lv_icmp_le (tgt := 123) hx hb dX6_widen_116 (by decide) (fun c25 => ?_) (fun c25 => ?_)
    · have hw := hw.1 c25
      refine lv_aload_n hx hb dX6_widen_123 rfl (lv_at hl 1 rfl) ?_
      refine x_get (ci := 5) (Cn := RX6) (T := TX6) (N := 55) (v := .int (F 27)) C (hR.rdX 0 rfl) rfl in_X6 27 (by decide) q1206 (fun _ h9 => h9) rfl dX6_widen_124 ?_
      refine lv_if_le (tgt := 143) hx hb dX6_widen_127 (by decide) (fun c26 => ?_) (fun c26 => ?_)
      · have hw := hw.1 c26
        refine lv_aload_n hx hb dX6_widen_143 rfl (lv_at hl 1 rfl) ?_
        refine lv_dup hx hb dX6_widen_144 rfl ?_
        refine x_get (ci := 5) (Cn := RX6) (T := TX6) (N := 55) (v := .int (F 50)) C (hR.rdX 0 rfl) rfl in_X6 50 (by decide) q1229 (fun _ h9 => h9) rfl dX6_widen_145 ?_
        refine lv_iload_n hx hb dX6_widen_148 rfl (lv_at hl 2 rfl) ?_
        refine lv_iadd hx hb dX6_widen_149 ?_
        refine x_putX (ci := 5) (Cn := RX6) (T := TX6) (N := 55) (v := .int ((F 50) + x1)) C hR hS 0 rfl rfl in_X6 tyX6_ok nmX6 50 (by decide) q1229 (fun _ h9 => h9) rfl rfl rfl (Nat.le_of_ble_eq_true rfl) (sM_f50 ..) dX6_widen_150 (fun H locs hR hS => ?_)
        exact kX6_widen_b153 C hR hS (lv_sub hl [] rfl) hw
      · have hw := hw.2 c26
        refine lv_aload_n hx hb dX6_widen_130 rfl (lv_at hl 1 rfl) ?_
        refine x_get (ci := 5) (Cn := RX6) (T := TX6) (N := 55) (v := .ref (ad 13)) C (hR.rdX 0 rfl) rfl in_X6 13 (by decide) q1192 (fun _ h9 => h9) rfl dX6_widen_131 ?_
        refine lv_iload_n hx hb dX6_widen_134 rfl (lv_at hl 3 rfl) ?_
        refine lv_dup2_11 hx hb dX6_widen_135 rfl rfl ?_
        obtain ⟨b27, hw⟩ := hw
        refine x_iald (n := 4) (f := (M 13)) C (hR.rdX 10 rfl) b27 dX6_widen_136 ?_
        refine lv_iload_n hx hb dX6_widen_137 rfl (lv_at hl 2 rfl) ?_
        refine lv_iadd hx hb dX6_widen_138 ?_
        obtain ⟨b28, hw⟩ := hw
        refine x_iastX (n := 4) (f := (M 13)) C hR hS 10 rfl b28 (sM_a13 ..) dX6_widen_139 (fun H locs hR hS => ?_)
        refine lv_goto (tgt := 153) hx hb dX6_widen_140 (by decide) ?_
        exact kX6_widen_b153 C hR hS (lv_sub hl [] rfl) hw
    · have hw := hw.2 c25
      refine lv_iload_n hx hb dX6_widen_119 rfl (lv_at hl 4 rfl) ?_
      refine lv_iconst (v := 3) hx hb dX6_widen_120 (by decide) ?_
      refine lv_iadd hx hb dX6_widen_121 ?_
      exact x_endi C hR hS ⟨_, rfl, ⟨_, _, rfl, rfl, hw⟩⟩ (Nat.le_refl _) (Nat.le_refl _) dX6_widen_122
  · have hw := hw.1 c24
    refine lv_iload_n hx hb dX6_widen_105 rfl (lv_at hl 4 rfl) ?_
    refine lv_iconst (v := 1) hx hb dX6_widen_106 (by decide) ?_
    refine lv_iadd hx hb dX6_widen_107 ?_
    exact x_endi C hR hS ⟨_, rfl, ⟨_, _, rfl, rfl, hw⟩⟩ (Nat.le_refl _) (Nat.le_refl _) dX6_widen_108
def wX6_widen_b78 (post : Int32 → (Nat → Int32) → (Nat → Nat → Int32) → Prop)  (F : (Nat → Int32)) (M : (Nat → Nat → Int32)) (x1 : Int32) (x2 : Int32) (s0 : Int32) : Prop :=
  ((F 27) ≤ 0 → wX6_widen_b99 post F M x1 x2 s0 (F 50)) ∧ (¬ (F 27) ≤ 0 → vp_in x2 4 ∧ wX6_widen_b99 post F M x1 x2 s0 ((M 13) x2.toNatClampNeg))
theorem kX6_widen_b78 {post : Int32 → (Nat → Int32) → (Nat → Nat → Int32) → Prop} (C : x_C p s m args meth c cX6_widen 5 (some .int) RX6 D N0 gp) {F : (Nat → Int32)} {M : (Nat → Nat → Int32)} {x1 : Int32} {x2 : Int32} {s0 : Int32} {H : Heap} {locs : List Loc} {ls : Array Slot} (hR : x_R D s N0 (fixM ad F M ++ XF) h H) (hS : va_S (x_A N0) s.heap H locs) (hl : lv_has ls 5 [(0, .ref (ad 1000)), (1, .int x1), (2, .int x2)]) (hw : wX6_widen_b78 post F M x1 x2 s0) : W p l e rmX6_widen s m args below meth c H locs 0 0 (MQ below (x_Qc D N0 (x_Vi (qMi ad XF h post))) args s 0 0 (x_A N0)) (F0 m 78 ls [.int s0]) := by
  obtain ⟨⟨hx, hb, hml, hown, hts⟩, hr, hlocks, hG, hN⟩ := id C
  unfold wX6_widen_b78 at hw
  refine lv_istore_n (lv' := [(3, .int s0), (0, .ref (ad 1000)), (1, .int x1), (2, .int x2)]) hx hb dX6_widen_78 rfl hl (by decide) rfl (fun ls hl => ?_)
  refine lv_aload_n hx hb dX6_widen_79 rfl (lv_at hl 1 rfl) ?_
  refine x_get (ci := 5) (Cn := RX6) (T := TX6) (N := 55) (v := .int (F 27)) C (hR.rdX 0 rfl) rfl in_X6 27 (by decide) q1206 (fun _ h9 => h9) rfl dX6_widen_80 ?_
  refine lv_if_le (tgt := 95) hx hb dX6_widen_83 (by decide) (fun c22 => ?_) (fun c22 => ?_)
  · have hw := hw.1 c22
    refine lv_aload_n hx hb dX6_widen_95 rfl (lv_at hl 1 rfl) ?_
    refine x_get (ci := 5) (Cn := RX6) (T := TX6) (N := 55) (v := .int (F 50)) C (hR.rdX 0 rfl) rfl in_X6 50 (by decide) q1229 (fun _ h9 => h9) rfl dX6_widen_96 ?_
    exact kX6_widen_b99 C hR hS (lv_sub hl [1, 2, 3, 0] rfl) hw
  · have hw := hw.2 c22
    refine lv_aload_n hx hb dX6_widen_86 rfl (lv_at hl 1 rfl) ?_
    refine x_get (ci := 5) (Cn := RX6) (T := TX6) (N := 55) (v := .ref (ad 13)) C (hR.rdX 0 rfl) rfl in_X6 13 (by decide) q1192 (fun _ h9 => h9) rfl dX6_widen_87 ?_
    refine lv_iload_n hx hb dX6_widen_90 rfl (lv_at hl 3 rfl) ?_
    obtain ⟨b23, hw⟩ := hw
    refine x_iald (n := 4) (f := (M 13)) C (hR.rdX 10 rfl) b23 dX6_widen_91 ?_
    refine lv_goto (tgt := 99) hx hb dX6_widen_92 (by decide) ?_
    exact kX6_widen_b99 C hR hS (lv_sub hl [1, 2, 3, 0] rfl) hw
def wX6_widen_b65 (post : Int32 → (Nat → Int32) → (Nat → Nat → Int32) → Prop)  (F : (Nat → Int32)) (M : (Nat → Nat → Int32)) (x1 : Int32) (x2 : Int32) : Prop :=
  ((F 27) ≤ 0 → wX6_widen_b78 post F M x1 x2 0) ∧ (¬ (F 27) ≤ 0 → wX6_widen_b78 post F M x1 x2 100)
theorem kX6_widen_b65 {post : Int32 → (Nat → Int32) → (Nat → Nat → Int32) → Prop} (C : x_C p s m args meth c cX6_widen 5 (some .int) RX6 D N0 gp) {F : (Nat → Int32)} {M : (Nat → Nat → Int32)} {x1 : Int32} {x2 : Int32} {H : Heap} {locs : List Loc} {ls : Array Slot} (hR : x_R D s N0 (fixM ad F M ++ XF) h H) (hS : va_S (x_A N0) s.heap H locs) (hl : lv_has ls 5 [(0, .ref (ad 1000)), (1, .int x1), (2, .int x2)]) (hw : wX6_widen_b65 post F M x1 x2) : W p l e rmX6_widen s m args below meth c H locs 0 0 (MQ below (x_Qc D N0 (x_Vi (qMi ad XF h post))) args s 0 0 (x_A N0)) (F0 m 65 ls []) := by
  obtain ⟨⟨hx, hb, hml, hown, hts⟩, hr, hlocks, hG, hN⟩ := id C
  unfold wX6_widen_b65 at hw
  refine lv_aload_n hx hb dX6_widen_65 rfl (lv_at hl 0 rfl) ?_
  refine x_get (ci := 5) (Cn := RX6) (T := TX6) (N := 55) (v := .int (F 27)) C (hR.rdX 0 rfl) rfl in_X6 27 (by decide) q1206 (fun _ h9 => h9) rfl dX6_widen_66 ?_
  refine lv_if_le (tgt := 77) hx hb dX6_widen_69 (by decide) (fun c21 => ?_) (fun c21 => ?_)
  · have hw := hw.1 c21
    refine lv_iconst (v := 0) hx hb dX6_widen_77 (by decide) ?_
    exact kX6_widen_b78 C hR hS (lv_sub hl [0, 1, 2] rfl) hw
  · have hw := hw.2 c21
    refine lv_bipush (v := 100) hx hb dX6_widen_72 (by decide) ?_
    refine lv_goto (tgt := 78) hx hb dX6_widen_74 (by decide) ?_
    exact kX6_widen_b78 C hR hS (lv_sub hl [0, 1, 2] rfl) hw
end
def wX6_widen (post : Int32 → (Nat → Int32) → (Nat → Nat → Int32) → Prop)  (F : (Nat → Int32)) (M : (Nat → Nat → Int32)) : Prop :=
  ((F 28) = 2 → wX6_idle (fun r16 => (r16 = 0 → wX6_slotOf (fun r18 => ((F 27) ≤ 0 → wX6_widen_b65 post F M (((256 : Int32) * ((M 24) ((4 : Int32).toNatClampNeg))) + ((M 24) ((5 : Int32).toNatClampNeg))) r18) ∧ (¬ (F 27) ≤ 0 → (r18 = (-1) → post 0 F M) ∧ (¬ r18 = (-1) → wX6_widen_b65 post F M (((256 : Int32) * ((M 24) ((4 : Int32).toNatClampNeg))) + ((M 24) ((5 : Int32).toNatClampNeg))) r18))) (F 27) F M) ∧ (¬ r16 = 0 → post 1 F M)) (F 27) F M) ∧ (¬ (F 28) = 2 → post 6 F M)
theorem kX6_widen (l : Launch) (D : va_G) (N0 : Nat) (gp : Nat → Nat) (ad : Nat → Nat) (XF : x_X) (h : x_H)  (F : (Nat → Int32)) (M : (Nat → Nat → Int32)) (post : Int32 → (Nat → Int32) → (Nat → Nat → Int32) → Prop) (hw : wX6_widen post  F M) : Met l yX6_widen (ws_ yX6_widen cX6_widen 5 (some .int)) rmX6_widen (x_Pc D N0 gp (fixM ad F M ++ XF) h [.ref (ad 1000)]) (x_Qc D N0 (x_Vi (qMi ad XF h post))) 0 0 (x_A N0) := by
  refine x_start (lv := [(0, .ref (ad 1000))]) (by decide) rfl (Nat.le_of_ble_eq_true rfl) rfl ?_
  intro p e s m below meth c C hR ls hl
  have hS : va_S (x_A N0) s.heap s.heap [] := va_S.rf
  obtain ⟨⟨hx, hb, hml, hown, hts⟩, hr, hlocks, hG, hN⟩ := id C
  unfold wX6_widen at hw
  refine lv_aload_n hx hb dX6_widen_0 rfl (lv_at hl 0 rfl) ?_
  refine x_get (ci := 5) (Cn := RX6) (T := TX6) (N := 55) (v := .int (F 28)) C (hR.rdX 0 rfl) rfl in_X6 28 (by decide) q1207 (fun _ h9 => h9) rfl dX6_widen_1 ?_
  refine lv_iconst (v := 2) hx hb dX6_widen_4 (by decide) ?_
  refine lv_icmp_eq (tgt := 11) hx hb dX6_widen_5 (by decide) (fun c15 => ?_) (fun c15 => ?_)
  · have hw := hw.1 c15
    refine lv_aload_n hx hb dX6_widen_11 rfl (lv_at hl 0 rfl) ?_
    refine lv_aload_n hx hb dX6_widen_12 rfl (lv_at hl 0 rfl) ?_
    refine x_get (ci := 5) (Cn := RX6) (T := TX6) (N := 55) (v := .int (F 27)) C (hR.rdX 0 rfl) rfl in_X6 27 (by decide) q1206 (fun _ h9 => h9) rfl dX6_widen_13 ?_
    refine x_calli0 (x_runV (n := 1) (As := [.int (F 27)]) C hR hS (kX6_idle l D N0 gp ad XF _ (F 27) F M _ hw) (lw_V q1415 q1417 qs52 q104 q1418) rfl rfl (by decide +kernel) ⟨Nat.le_of_ble_eq_true rfl, Nat.le_of_ble_eq_true rfl⟩ (x_recv C (hR.rdX 0 rfl) rfl) rfl hl.1 rfl (Nat.le_of_ble_eq_true rfl) dX6_widen_16 ⟨Nat.le_refl _, Nat.le_refl _⟩) hS (fun r16 X1 h1 H locs hq hR hS => ?_)
    obtain ⟨e1, e2, hw⟩ := hq
    rw [e1, e2] at hR
    refine lv_if_eq (tgt := 24) hx hb dX6_widen_19 (by decide) (fun c17 => ?_) (fun c17 => ?_)
    · have hw := hw.1 c17
      refine lv_sipush (v := 256) hx hb dX6_widen_24 (by decide) ?_
      refine lv_aload_n hx hb dX6_widen_27 rfl (lv_at hl 0 rfl) ?_
      refine x_get (ci := 5) (Cn := RX6) (T := TX6) (N := 55) (v := .ref (ad 24)) C (hR.rdX 0 rfl) rfl in_X6 24 (by decide) q1203 (fun _ h9 => h9) rfl dX6_widen_28 ?_
      refine lv_iconst (v := 4) hx hb dX6_widen_31 (by decide) ?_
      refine x_iald (n := 204) (f := (M 24)) C (hR.rdX 19 rfl) (by unfold vp_in; decide) dX6_widen_32 ?_
      refine lv_imul hx hb dX6_widen_33 ?_
      refine lv_aload_n hx hb dX6_widen_34 rfl (lv_at hl 0 rfl) ?_
      refine x_get (ci := 5) (Cn := RX6) (T := TX6) (N := 55) (v := .ref (ad 24)) C (hR.rdX 0 rfl) rfl in_X6 24 (by decide) q1203 (fun _ h9 => h9) rfl dX6_widen_35 ?_
      refine lv_iconst (v := 5) hx hb dX6_widen_38 (by decide) ?_
      refine x_iald (n := 204) (f := (M 24)) C (hR.rdX 19 rfl) (by unfold vp_in; decide) dX6_widen_39 ?_
      refine lv_iadd hx hb dX6_widen_40 ?_
      refine lv_istore_n (lv' := [(1, .int (((256 : Int32) * ((M 24) ((4 : Int32).toNatClampNeg))) + ((M 24) ((5 : Int32).toNatClampNeg)))), (0, .ref (ad 1000))]) hx hb dX6_widen_41 rfl hl (by decide) rfl (fun ls hl => ?_)
      refine lv_aload_n hx hb dX6_widen_42 rfl (lv_at hl 1 rfl) ?_
      refine lv_aload_n hx hb dX6_widen_43 rfl (lv_at hl 1 rfl) ?_
      refine x_get (ci := 5) (Cn := RX6) (T := TX6) (N := 55) (v := .int (F 27)) C (hR.rdX 0 rfl) rfl in_X6 27 (by decide) q1206 (fun _ h9 => h9) rfl dX6_widen_44 ?_
      refine x_calli0 (x_runV (n := 1) (As := [.int (F 27)]) C hR hS (kX6_slotOf l D N0 gp ad XF _ (F 27) F M _ hw) (lw_V q1427 q1429 qs55 q104 q1430) rfl rfl (by decide +kernel) ⟨Nat.le_of_ble_eq_true rfl, Nat.le_of_ble_eq_true rfl⟩ (x_recv C (hR.rdX 0 rfl) rfl) rfl hl.1 rfl (Nat.le_of_ble_eq_true rfl) dX6_widen_47 ⟨Nat.le_refl _, Nat.le_refl _⟩) hS (fun r18 X1 h1 H locs hq hR hS => ?_)
      obtain ⟨e1, e2, hw⟩ := hq
      rw [e1, e2] at hR
      refine lv_istore_n (lv' := [(2, .int r18), (1, .int (((256 : Int32) * ((M 24) ((4 : Int32).toNatClampNeg))) + ((M 24) ((5 : Int32).toNatClampNeg)))), (0, .ref (ad 1000))]) hx hb dX6_widen_50 rfl hl (by decide) rfl (fun ls hl => ?_)
      refine lv_aload_n hx hb dX6_widen_51 rfl (lv_at hl 2 rfl) ?_
      refine x_get (ci := 5) (Cn := RX6) (T := TX6) (N := 55) (v := .int (F 27)) C (hR.rdX 0 rfl) rfl in_X6 27 (by decide) q1206 (fun _ h9 => h9) rfl dX6_widen_52 ?_
      refine lv_if_le (tgt := 65) hx hb dX6_widen_55 (by decide) (fun c19 => ?_) (fun c19 => ?_)
      · have hw := hw.1 c19
        exact kX6_widen_b65 C hR hS (lv_sub hl [2, 1, 0] rfl) hw
      · have hw := hw.2 c19
        refine lv_iload_n hx hb dX6_widen_58 rfl (lv_at hl 0 rfl) ?_
        refine lv_iconst (v := -1) hx hb dX6_widen_59 (by decide) ?_
        refine lv_icmp_ne (tgt := 65) hx hb dX6_widen_60 (by decide) (fun c20 => ?_) (fun c20 => ?_)
        · have hw := hw.2 c20
          exact kX6_widen_b65 C hR hS (lv_sub hl [2, 1, 0] rfl) hw
        · have hw := hw.1 c20
          refine lv_iconst (v := 0) hx hb dX6_widen_63 (by decide) ?_
          exact x_endi C hR hS ⟨_, rfl, ⟨_, _, rfl, rfl, hw⟩⟩ (Nat.le_refl _) (Nat.le_refl _) dX6_widen_64
    · have hw := hw.2 c17
      refine lv_iconst (v := 1) hx hb dX6_widen_22 (by decide) ?_
      exact x_endi C hR hS ⟨_, rfl, ⟨_, _, rfl, rfl, hw⟩⟩ (Nat.le_refl _) (Nat.le_refl _) dX6_widen_23
  · have hw := hw.2 c15
    refine lv_bipush (v := 6) hx hb dX6_widen_8 (by decide) ?_
    exact x_endi C hR hS ⟨_, rfl, ⟨_, _, rfl, rfl, hw⟩⟩ (Nat.le_refl _) (Nat.le_refl _) dX6_widen_10
/-- PageServerModel.look()I -/
abbrev rmX6_look : Room := { frames := 8, cells := 0, slots := 0, locals := 168 }
section
variable {p : Program} {l : Launch} {e : Env} {s : State} {m : MethodId} {args : Array Value} {below : List Frame} {meth : Method} {c : Code} {D : va_G} {N0 : Nat} {gp : Nat → Nat} {ad : Nat → Nat} {XF : x_X} {h : x_H}
def wX6_look_b23 (post : Int32 → (Nat → Int32) → (Nat → Nat → Int32) → Prop)  (F : (Nat → Int32)) (M : (Nat → Nat → Int32)) : Prop :=
  post 1 F M
theorem kX6_look_b23 {post : Int32 → (Nat → Int32) → (Nat → Nat → Int32) → Prop} (C : x_C p s m args meth c cX6_look 2 (some .int) RX6 D N0 gp) {F : (Nat → Int32)} {M : (Nat → Nat → Int32)} {H : Heap} {locs : List Loc} {ls : Array Slot} (hR : x_R D s N0 (fixM ad F M ++ XF) h H) (hS : va_S (x_A N0) s.heap H locs) (hl : lv_has ls 2 []) (hw : wX6_look_b23 post F M) : W p l e rmX6_look s m args below meth c H locs 0 0 (MQ below (x_Qc D N0 (x_Vi (qMi ad XF h post))) args s 0 0 (x_A N0)) (F0 m 23 ls []) := by
  obtain ⟨⟨hx, hb, hml, hown, hts⟩, hr, hlocks, hG, hN⟩ := id C
  unfold wX6_look_b23 at hw
  refine lv_iconst (v := 1) hx hb dX6_look_23 (by decide) ?_
  exact x_endi C hR hS ⟨_, rfl, ⟨_, _, rfl, rfl, hw⟩⟩ (Nat.le_refl _) (Nat.le_refl _) dX6_look_24
def wX6_look_b210 (post : Int32 → (Nat → Int32) → (Nat → Nat → Int32) → Prop)  (F : (Nat → Int32)) (M : (Nat → Nat → Int32)) (s0 : Int32) : Prop :=
  post s0 F M
theorem kX6_look_b210 {post : Int32 → (Nat → Int32) → (Nat → Nat → Int32) → Prop} (C : x_C p s m args meth c cX6_look 2 (some .int) RX6 D N0 gp) {F : (Nat → Int32)} {M : (Nat → Nat → Int32)} {s0 : Int32} {H : Heap} {locs : List Loc} {ls : Array Slot} (hR : x_R D s N0 (fixM ad F M ++ XF) h H) (hS : va_S (x_A N0) s.heap H locs) (hl : lv_has ls 2 []) (hw : wX6_look_b210 post F M s0) : W p l e rmX6_look s m args below meth c H locs 0 0 (MQ below (x_Qc D N0 (x_Vi (qMi ad XF h post))) args s 0 0 (x_A N0)) (F0 m 210 ls [.int s0]) := by
  obtain ⟨⟨hx, hb, hml, hown, hts⟩, hr, hlocks, hG, hN⟩ := id C
  unfold wX6_look_b210 at hw
  exact x_endi C hR hS ⟨_, rfl, ⟨_, _, rfl, rfl, hw⟩⟩ (Nat.le_refl _) (Nat.le_refl _) dX6_look_210
def wX6_look_b221 (post : Int32 → (Nat → Int32) → (Nat → Nat → Int32) → Prop)  (F : (Nat → Int32)) (M : (Nat → Nat → Int32)) : Prop :=
  post 0 F M
theorem kX6_look_b221 {post : Int32 → (Nat → Int32) → (Nat → Nat → Int32) → Prop} (C : x_C p s m args meth c cX6_look 2 (some .int) RX6 D N0 gp) {F : (Nat → Int32)} {M : (Nat → Nat → Int32)} {H : Heap} {locs : List Loc} {ls : Array Slot} (hR : x_R D s N0 (fixM ad F M ++ XF) h H) (hS : va_S (x_A N0) s.heap H locs) (hl : lv_has ls 2 []) (hw : wX6_look_b221 post F M) : W p l e rmX6_look s m args below meth c H locs 0 0 (MQ below (x_Qc D N0 (x_Vi (qMi ad XF h post))) args s 0 0 (x_A N0)) (F0 m 221 ls []) := by
  obtain ⟨⟨hx, hb, hml, hown, hts⟩, hr, hlocks, hG, hN⟩ := id C
  unfold wX6_look_b221 at hw
  refine lv_iconst (v := 0) hx hb dX6_look_221 (by decide) ?_
  exact x_endi C hR hS ⟨_, rfl, ⟨_, _, rfl, rfl, hw⟩⟩ (Nat.le_refl _) (Nat.le_refl _) dX6_look_222
def wX6_look_b80 (post : Int32 → (Nat → Int32) → (Nat → Nat → Int32) → Prop)  (F : (Nat → Int32)) (M : (Nat → Nat → Int32)) (s0 : Int32) : Prop :=
  (s0 = 0 → post 1 F M) ∧ (¬ s0 = 0 → ((F 25) = 0 → wX6_data (fun r35 F36 M36 => post r35 F36 M36) (upd (upd F 29 0) 30 (F 28)) M) ∧ ((F 25) = 1 → wX6_headers (fun r37 F38 M38 => post r37 F38 M38) (upd (upd F 29 0) 30 (F 28)) M) ∧ ((F 25) = 3 → wX6_drop (fun r39 F40 M40 => post r39 F40 M40) (upd (upd F 29 0) 30 (F 28)) M) ∧ ((F 25) = 4 → wX6_settings (fun r41 F42 M42 => post r41 F42 M42) (upd (upd F 29 0) 30 (F 28)) M) ∧ ((F 25) = 6 → wX6_ping (fun r43 F44 M44 => post r43 F44 M44) (upd (upd F 29 0) 30 (F 28)) M) ∧ ((F 25) = 7 → ((F 27) ≤ 0 → ((F 28) = 2 → wX6_look_b210 post (upd (upd F 29 0) 30 (F 28)) M 0) ∧ (¬ (F 28) = 2 → wX6_look_b210 post (upd (upd F 29 0) 30 (F 28)) M 6)) ∧ (¬ (F 27) ≤ 0 → wX6_look_b210 post (upd (upd F 29 0) 30 (F 28)) M 1)) ∧ ((F 25) = 8 → wX6_widen (fun r47 F48 M48 => post r47 F48 M48) (upd (upd F 29 0) 30 (F 28)) M) ∧ ((F 25) = 9 → wX6_more (fun r49 F50 M50 => post r49 F50 M50) (upd (upd F 29 0) 30 (F 28)) M) ∧ (¬ (F 25) = 0 → ¬ (F 25) = 1 → ¬ (F 25) = 3 → ¬ (F 25) = 4 → ¬ (F 25) = 6 → ¬ (F 25) = 7 → ¬ (F 25) = 8 → ¬ (F 25) = 9 → wX6_look_b221 post (upd (upd F 29 0) 30 (F 28)) M))
theorem kX6_look_b80 {post : Int32 → (Nat → Int32) → (Nat → Nat → Int32) → Prop} (C : x_C p s m args meth c cX6_look 2 (some .int) RX6 D N0 gp) {F : (Nat → Int32)} {M : (Nat → Nat → Int32)} {s0 : Int32} {H : Heap} {locs : List Loc} {ls : Array Slot} (hR : x_R D s N0 (fixM ad F M ++ XF) h H) (hS : va_S (x_A N0) s.heap H locs) (hl : lv_has ls 2 [(0, .ref (ad 1000))]) (hw : wX6_look_b80 post F M s0) : W p l e rmX6_look s m args below meth c H locs 0 0 (MQ below (x_Qc D N0 (x_Vi (qMi ad XF h post))) args s 0 0 (x_A N0)) (F0 m 80 ls [.int s0]) := by
  obtain ⟨⟨hx, hb, hml, hown, hts⟩, hr, hlocks, hG, hN⟩ := id C
  unfold wX6_look_b80 at hw
  refine lv_istore_n (lv' := [(1, .int s0), (0, .ref (ad 1000))]) hx hb dX6_look_80 rfl hl (by decide) rfl (fun ls hl => ?_)
  refine lv_iload_n hx hb dX6_look_81 rfl (lv_at hl 0 rfl) ?_
  refine lv_if_ne (tgt := 87) hx hb dX6_look_82 (by decide) (fun c34 => ?_) (fun c34 => ?_)
  · have hw := hw.2 c34
    refine lv_aload_n hx hb dX6_look_87 rfl (lv_at hl 1 rfl) ?_
    refine lv_iconst (v := 0) hx hb dX6_look_88 (by decide) ?_
    refine x_putX (ci := 5) (Cn := RX6) (T := TX6) (N := 55) (v := .int 0) C hR hS 0 rfl rfl in_X6 tyX6_ok nmX6 29 (by decide) q1208 (fun _ h9 => h9) rfl rfl rfl (Nat.le_of_ble_eq_true rfl) (sM_f29 ..) dX6_look_89 (fun H locs hR hS => ?_)
    refine lv_aload_n hx hb dX6_look_92 rfl (lv_at hl 1 rfl) ?_
    refine lv_aload_n hx hb dX6_look_93 rfl (lv_at hl 1 rfl) ?_
    refine x_get (ci := 5) (Cn := RX6) (T := TX6) (N := 55) (v := .int (F 28)) C (hR.rdX 0 rfl) rfl in_X6 28 (by decide) q1207 (fun _ h9 => h9) rfl dX6_look_94 ?_
    refine x_putX (ci := 5) (Cn := RX6) (T := TX6) (N := 55) (v := .int (F 28)) C hR hS 0 rfl rfl in_X6 tyX6_ok nmX6 30 (by decide) q1209 (fun _ h9 => h9) rfl rfl rfl (Nat.le_of_ble_eq_true rfl) (sM_f30 ..) dX6_look_97 (fun H locs hR hS => ?_)
    refine lv_aload_n hx hb dX6_look_100 rfl (lv_at hl 1 rfl) ?_
    refine x_get (ci := 5) (Cn := RX6) (T := TX6) (N := 55) (v := .int (F 25)) C (hR.rdX 0 rfl) rfl in_X6 25 (by decide) q1204 (fun _ h9 => h9) rfl dX6_look_101 ?_
    by_cases c104_0 : (F 25) = 0
    · have hw := hw.1 c104_0
      refine lv_tableIn (tgt := 160) (off := 56) hx hb dX6_look_104 (by rw [c104_0]; decide) (by rw [c104_0]; decide) (by rw [c104_0]; decide) (by decide) ?_
      refine lv_aload_n hx hb dX6_look_160 rfl (lv_at hl 1 rfl) ?_
      refine x_calli0 (x_runV (n := 0) (As := []) C hR hS (kX6_data l D N0 gp ad XF _ (upd (upd F 29 0) 30 (F 28)) M _ hw) (lw_V q1411 q1413 qs51 q104 q1414) rfl rfl (by decide +kernel) ⟨Nat.le_of_ble_eq_true rfl, Nat.le_of_ble_eq_true rfl⟩ (x_recv C (hR.rdX 0 rfl) rfl) rfl hl.1 rfl (Nat.le_of_ble_eq_true rfl) dX6_look_161 ⟨Nat.le_refl _, Nat.le_refl _⟩) hS (fun r35 X1 h1 H locs hq hR hS => ?_)
      obtain ⟨F36, M36, e1, e2, hw⟩ := hq
      rw [e1, e2] at hR
      exact x_endi C hR hS ⟨_, rfl, ⟨_, _, rfl, rfl, hw⟩⟩ (Nat.le_refl _) (Nat.le_refl _) dX6_look_164
    · skip
      by_cases c104_1 : (F 25) = 1
      · have hw := hw.2.1 c104_1
        refine lv_tableIn (tgt := 165) (off := 61) hx hb dX6_look_104 (by rw [c104_1]; decide) (by rw [c104_1]; decide) (by rw [c104_1]; decide) (by decide) ?_
        refine lv_aload_n hx hb dX6_look_165 rfl (lv_at hl 1 rfl) ?_
        refine x_calli0 (x_runV (n := 0) (As := []) C hR hS (kX6_headers l D N0 gp ad XF _ (upd (upd F 29 0) 30 (F 28)) M _ hw) (lw_V q1439 q1441 qs58 q104 q1442) rfl rfl (by decide +kernel) ⟨Nat.le_of_ble_eq_true rfl, Nat.le_of_ble_eq_true rfl⟩ (x_recv C (hR.rdX 0 rfl) rfl) rfl hl.1 rfl (Nat.le_of_ble_eq_true rfl) dX6_look_166 ⟨Nat.le_refl _, Nat.le_refl _⟩) hS (fun r37 X1 h1 H locs hq hR hS => ?_)
        obtain ⟨F38, M38, e1, e2, hw⟩ := hq
        rw [e1, e2] at hR
        exact x_endi C hR hS ⟨_, rfl, ⟨_, _, rfl, rfl, hw⟩⟩ (Nat.le_refl _) (Nat.le_refl _) dX6_look_169
      · skip
        by_cases c104_3 : (F 25) = 3
        · have hw := hw.2.2.1 c104_3
          refine lv_tableIn (tgt := 170) (off := 66) hx hb dX6_look_104 (by rw [c104_3]; decide) (by rw [c104_3]; decide) (by rw [c104_3]; decide) (by decide) ?_
          refine lv_aload_n hx hb dX6_look_170 rfl (lv_at hl 1 rfl) ?_
          refine x_calli0 (x_runV (n := 0) (As := []) C hR hS (kX6_drop l D N0 gp ad XF _ (upd (upd F 29 0) 30 (F 28)) M _ hw) (lw_V q1516 q1518 qs77 q104 q1519) rfl rfl (by decide +kernel) ⟨Nat.le_of_ble_eq_true rfl, Nat.le_of_ble_eq_true rfl⟩ (x_recv C (hR.rdX 0 rfl) rfl) rfl hl.1 rfl (Nat.le_of_ble_eq_true rfl) dX6_look_171 ⟨Nat.le_refl _, Nat.le_refl _⟩) hS (fun r39 X1 h1 H locs hq hR hS => ?_)
          obtain ⟨F40, M40, e1, e2, hw⟩ := hq
          rw [e1, e2] at hR
          exact x_endi C hR hS ⟨_, rfl, ⟨_, _, rfl, rfl, hw⟩⟩ (Nat.le_refl _) (Nat.le_refl _) dX6_look_174
        · skip
          by_cases c104_4 : (F 25) = 4
          · have hw := hw.2.2.2.1 c104_4
            refine lv_tableIn (tgt := 175) (off := 71) hx hb dX6_look_104 (by rw [c104_4]; decide) (by rw [c104_4]; decide) (by rw [c104_4]; decide) (by decide) ?_
            refine lv_aload_n hx hb dX6_look_175 rfl (lv_at hl 1 rfl) ?_
            refine x_calli0 (x_runV (n := 0) (As := []) C hR hS (kX6_settings l D N0 gp ad XF _ (upd (upd F 29 0) 30 (F 28)) M _ hw) (lw_V q1524 q1526 qs79 q104 q1527) rfl rfl (by decide +kernel) ⟨Nat.le_of_ble_eq_true rfl, Nat.le_of_ble_eq_true rfl⟩ (x_recv C (hR.rdX 0 rfl) rfl) rfl hl.1 rfl (Nat.le_of_ble_eq_true rfl) dX6_look_176 ⟨Nat.le_refl _, Nat.le_refl _⟩) hS (fun r41 X1 h1 H locs hq hR hS => ?_)
            obtain ⟨F42, M42, e1, e2, hw⟩ := hq
            rw [e1, e2] at hR
            exact x_endi C hR hS ⟨_, rfl, ⟨_, _, rfl, rfl, hw⟩⟩ (Nat.le_refl _) (Nat.le_refl _) dX6_look_179
          · skip
            by_cases c104_6 : (F 25) = 6
            · have hw := hw.2.2.2.2.1 c104_6
              refine lv_tableIn (tgt := 180) (off := 76) hx hb dX6_look_104 (by rw [c104_6]; decide) (by rw [c104_6]; decide) (by rw [c104_6]; decide) (by decide) ?_
              refine lv_aload_n hx hb dX6_look_180 rfl (lv_at hl 1 rfl) ?_
              refine x_calli0 (x_runV (n := 0) (As := []) C hR hS (kX6_ping l D N0 gp ad XF _ (upd (upd F 29 0) 30 (F 28)) M _ hw) (lw_V q1528 q1530 qs80 q104 q1531) rfl rfl (by decide +kernel) ⟨Nat.le_of_ble_eq_true rfl, Nat.le_of_ble_eq_true rfl⟩ (x_recv C (hR.rdX 0 rfl) rfl) rfl hl.1 rfl (Nat.le_of_ble_eq_true rfl) dX6_look_181 ⟨Nat.le_refl _, Nat.le_refl _⟩) hS (fun r43 X1 h1 H locs hq hR hS => ?_)
              obtain ⟨F44, M44, e1, e2, hw⟩ := hq
              rw [e1, e2] at hR
              exact x_endi C hR hS ⟨_, rfl, ⟨_, _, rfl, rfl, hw⟩⟩ (Nat.le_refl _) (Nat.le_refl _) dX6_look_184
            · skip
              by_cases c104_7 : (F 25) = 7
              · have hw := hw.2.2.2.2.2.1 c104_7
                refine lv_tableIn (tgt := 185) (off := 81) hx hb dX6_look_104 (by rw [c104_7]; decide) (by rw [c104_7]; decide) (by rw [c104_7]; decide) (by decide) ?_
                refine lv_aload_n hx hb dX6_look_185 rfl (lv_at hl 1 rfl) ?_
                refine x_get (ci := 5) (Cn := RX6) (T := TX6) (N := 55) (v := .int (F 27)) C (hR.rdX 0 rfl) rfl in_X6 27 (by decide) q1206 (fun _ h9 => h9) rfl dX6_look_186 ?_
                refine lv_if_le (tgt := 196) hx hb dX6_look_189 (by decide) (fun c45 => ?_) (fun c45 => ?_)
                · have hw := hw.1 c45
                  refine lv_aload_n hx hb dX6_look_196 rfl (lv_at hl 1 rfl) ?_
                  refine x_get (ci := 5) (Cn := RX6) (T := TX6) (N := 55) (v := .int (F 28)) C (hR.rdX 0 rfl) rfl in_X6 28 (by decide) q1207 (fun _ h9 => h9) rfl dX6_look_197 ?_
                  refine lv_iconst (v := 2) hx hb dX6_look_200 (by decide) ?_
                  refine lv_icmp_ne (tgt := 208) hx hb dX6_look_201 (by decide) (fun c46 => ?_) (fun c46 => ?_)
                  · have hw := hw.2 c46
                    refine lv_bipush (v := 6) hx hb dX6_look_208 (by decide) ?_
                    exact kX6_look_b210 C hR hS (lv_sub hl [] rfl) hw
                  · have hw := hw.1 c46
                    refine lv_iconst (v := 0) hx hb dX6_look_204 (by decide) ?_
                    refine lv_goto (tgt := 210) hx hb dX6_look_205 (by decide) ?_
                    exact kX6_look_b210 C hR hS (lv_sub hl [] rfl) hw
                · have hw := hw.2 c45
                  refine lv_iconst (v := 1) hx hb dX6_look_192 (by decide) ?_
                  refine lv_goto (tgt := 210) hx hb dX6_look_193 (by decide) ?_
                  exact kX6_look_b210 C hR hS (lv_sub hl [] rfl) hw
              · skip
                by_cases c104_8 : (F 25) = 8
                · have hw := hw.2.2.2.2.2.2.1 c104_8
                  refine lv_tableIn (tgt := 211) (off := 107) hx hb dX6_look_104 (by rw [c104_8]; decide) (by rw [c104_8]; decide) (by rw [c104_8]; decide) (by decide) ?_
                  refine lv_aload_n hx hb dX6_look_211 rfl (lv_at hl 1 rfl) ?_
                  refine x_calli0 (x_runV (n := 0) (As := []) C hR hS (kX6_widen l D N0 gp ad XF _ (upd (upd F 29 0) 30 (F 28)) M _ hw) (lw_V q1532 q1534 qs81 q104 q1535) rfl rfl (by decide +kernel) ⟨Nat.le_of_ble_eq_true rfl, Nat.le_of_ble_eq_true rfl⟩ (x_recv C (hR.rdX 0 rfl) rfl) rfl hl.1 rfl (Nat.le_of_ble_eq_true rfl) dX6_look_212 ⟨Nat.le_refl _, Nat.le_refl _⟩) hS (fun r47 X1 h1 H locs hq hR hS => ?_)
                  obtain ⟨F48, M48, e1, e2, hw⟩ := hq
                  rw [e1, e2] at hR
                  exact x_endi C hR hS ⟨_, rfl, ⟨_, _, rfl, rfl, hw⟩⟩ (Nat.le_refl _) (Nat.le_refl _) dX6_look_215
                · skip
                  by_cases c104_9 : (F 25) = 9
                  · have hw := hw.2.2.2.2.2.2.2.1 c104_9
                    refine lv_tableIn (tgt := 216) (off := 112) hx hb dX6_look_104 (by rw [c104_9]; decide) (by rw [c104_9]; decide) (by rw [c104_9]; decide) (by decide) ?_
                    refine lv_aload_n hx hb dX6_look_216 rfl (lv_at hl 1 rfl) ?_
                    refine x_calli0 (x_runV (n := 0) (As := []) C hR hS (kX6_more l D N0 gp ad XF _ (upd (upd F 29 0) 30 (F 28)) M _ hw) (lw_V q1443 q1445 qs59 q104 q1446) rfl rfl (by decide +kernel) ⟨Nat.le_of_ble_eq_true rfl, Nat.le_of_ble_eq_true rfl⟩ (x_recv C (hR.rdX 0 rfl) rfl) rfl hl.1 rfl (Nat.le_of_ble_eq_true rfl) dX6_look_217 ⟨Nat.le_refl _, Nat.le_refl _⟩) hS (fun r49 X1 h1 H locs hq hR hS => ?_)
                    obtain ⟨F50, M50, e1, e2, hw⟩ := hq
                    rw [e1, e2] at hR
                    exact x_endi C hR hS ⟨_, rfl, ⟨_, _, rfl, rfl, hw⟩⟩ (Nat.le_refl _) (Nat.le_refl _) dX6_look_220
                  · skip
                    have hw := hw.2.2.2.2.2.2.2.2 c104_0 c104_1 c104_3 c104_4 c104_6 c104_7 c104_8 c104_9
                    by_cases c104_2 : (F 25) = 2
                    · refine lv_tableIn (tgt := 221) (off := 117) hx hb dX6_look_104 (by rw [c104_2]; decide) (by rw [c104_2]; decide) (by rw [c104_2]; decide) (by decide) ?_
                      exact kX6_look_b221 C hR hS (lv_sub hl [] rfl) hw
                    · skip
                      by_cases c104_5 : (F 25) = 5
                      · refine lv_tableIn (tgt := 221) (off := 117) hx hb dX6_look_104 (by rw [c104_5]; decide) (by rw [c104_5]; decide) (by rw [c104_5]; decide) (by decide) ?_
                        exact kX6_look_b221 C hR hS (lv_sub hl [] rfl) hw
                      · skip
                        have tc104_0 := lv_neT (a := 0) c104_0 (by decide)
                        have tc104_1 := lv_neT (a := 1) c104_1 (by decide)
                        have tc104_2 := lv_neT (a := 2) c104_2 (by decide)
                        have tc104_3 := lv_neT (a := 3) c104_3 (by decide)
                        have tc104_4 := lv_neT (a := 4) c104_4 (by decide)
                        have tc104_5 := lv_neT (a := 5) c104_5 (by decide)
                        have tc104_6 := lv_neT (a := 6) c104_6 (by decide)
                        have tc104_7 := lv_neT (a := 7) c104_7 (by decide)
                        have tc104_8 := lv_neT (a := 8) c104_8 (by decide)
                        have tc104_9 := lv_neT (a := 9) c104_9 (by decide)
                        refine lv_tableOut (tgt := 221) hx hb dX6_look_104 (by omega) (by decide) ?_
                        exact kX6_look_b221 C hR hS (lv_sub hl [] rfl) hw
  · have hw := hw.1 c34
    refine lv_iconst (v := 1) hx hb dX6_look_85 (by decide) ?_
    exact x_endi C hR hS ⟨_, rfl, ⟨_, _, rfl, rfl, hw⟩⟩ (Nat.le_refl _) (Nat.le_refl _) dX6_look_86
def wX6_look_b79 (post : Int32 → (Nat → Int32) → (Nat → Nat → Int32) → Prop)  (F : (Nat → Int32)) (M : (Nat → Nat → Int32)) : Prop :=
  wX6_look_b80 post F M 0
theorem kX6_look_b79 {post : Int32 → (Nat → Int32) → (Nat → Nat → Int32) → Prop} (C : x_C p s m args meth c cX6_look 2 (some .int) RX6 D N0 gp) {F : (Nat → Int32)} {M : (Nat → Nat → Int32)} {H : Heap} {locs : List Loc} {ls : Array Slot} (hR : x_R D s N0 (fixM ad F M ++ XF) h H) (hS : va_S (x_A N0) s.heap H locs) (hl : lv_has ls 2 [(0, .ref (ad 1000))]) (hw : wX6_look_b79 post F M) : W p l e rmX6_look s m args below meth c H locs 0 0 (MQ below (x_Qc D N0 (x_Vi (qMi ad XF h post))) args s 0 0 (x_A N0)) (F0 m 79 ls []) := by
  obtain ⟨⟨hx, hb, hml, hown, hts⟩, hr, hlocks, hG, hN⟩ := id C
  unfold wX6_look_b79 at hw
  refine lv_iconst (v := 0) hx hb dX6_look_79 (by decide) ?_
  exact kX6_look_b80 C hR hS (lv_sub hl [0] rfl) hw
def wX6_look_b25 (post : Int32 → (Nat → Int32) → (Nat → Nat → Int32) → Prop)  (F : (Nat → Int32)) (M : (Nat → Nat → Int32)) : Prop :=
  ((F 32) = (-1) → ((F 25) = 9 → wX6_look_b80 post (upd F 31 0) M 0) ∧ (¬ (F 25) = 9 → wX6_look_b80 post (upd F 31 0) M 1)) ∧ (¬ (F 32) = (-1) → ((F 25) = 9 → ((F 27) = (F 32) → wX6_look_b80 post (upd F 31 0) M 1) ∧ (¬ (F 27) = (F 32) → wX6_look_b79 post (upd F 31 0) M)) ∧ (¬ (F 25) = 9 → wX6_look_b79 post (upd F 31 0) M))
theorem kX6_look_b25 {post : Int32 → (Nat → Int32) → (Nat → Nat → Int32) → Prop} (C : x_C p s m args meth c cX6_look 2 (some .int) RX6 D N0 gp) {F : (Nat → Int32)} {M : (Nat → Nat → Int32)} {H : Heap} {locs : List Loc} {ls : Array Slot} (hR : x_R D s N0 (fixM ad F M ++ XF) h H) (hS : va_S (x_A N0) s.heap H locs) (hl : lv_has ls 2 [(0, .ref (ad 1000))]) (hw : wX6_look_b25 post F M) : W p l e rmX6_look s m args below meth c H locs 0 0 (MQ below (x_Qc D N0 (x_Vi (qMi ad XF h post))) args s 0 0 (x_A N0)) (F0 m 25 ls []) := by
  obtain ⟨⟨hx, hb, hml, hown, hts⟩, hr, hlocks, hG, hN⟩ := id C
  unfold wX6_look_b25 at hw
  refine lv_aload_n hx hb dX6_look_25 rfl (lv_at hl 0 rfl) ?_
  refine lv_iconst (v := 0) hx hb dX6_look_26 (by decide) ?_
  refine x_putX (ci := 5) (Cn := RX6) (T := TX6) (N := 55) (v := .int 0) C hR hS 0 rfl rfl in_X6 tyX6_ok nmX6 31 (by decide) q1210 (fun _ h9 => h9) rfl rfl rfl (Nat.le_of_ble_eq_true rfl) (sM_f31 ..) dX6_look_27 (fun H locs hR hS => ?_)
  refine lv_aload_n hx hb dX6_look_30 rfl (lv_at hl 0 rfl) ?_
  refine x_get (ci := 5) (Cn := RX6) (T := TX6) (N := 55) (v := .int (F 32)) C (hR.rdX 0 rfl) rfl in_X6 32 (by decide) q1211 (fun _ h9 => h9) rfl dX6_look_31 ?_
  refine lv_iconst (v := -1) hx hb dX6_look_34 (by decide) ?_
  refine lv_icmp_ne (tgt := 55) hx hb dX6_look_35 (by decide) (fun c30 => ?_) (fun c30 => ?_)
  · have hw := hw.2 c30
    refine lv_aload_n hx hb dX6_look_55 rfl (lv_at hl 0 rfl) ?_
    refine x_get (ci := 5) (Cn := RX6) (T := TX6) (N := 55) (v := .int (F 25)) C (hR.rdX 0 rfl) rfl in_X6 25 (by decide) q1204 (fun _ h9 => h9) rfl dX6_look_56 ?_
    refine lv_bipush (v := 9) hx hb dX6_look_59 (by decide) ?_
    refine lv_icmp_ne (tgt := 79) hx hb dX6_look_61 (by decide) (fun c31 => ?_) (fun c31 => ?_)
    · have hw := hw.2 c31
      exact kX6_look_b79 C hR hS (lv_sub hl [0] rfl) hw
    · have hw := hw.1 c31
      refine lv_aload_n hx hb dX6_look_64 rfl (lv_at hl 0 rfl) ?_
      refine x_get (ci := 5) (Cn := RX6) (T := TX6) (N := 55) (v := .int (F 27)) C (hR.rdX 0 rfl) rfl in_X6 27 (by decide) q1206 (fun _ h9 => h9) rfl dX6_look_65 ?_
      refine lv_aload_n hx hb dX6_look_68 rfl (lv_at hl 0 rfl) ?_
      refine x_get (ci := 5) (Cn := RX6) (T := TX6) (N := 55) (v := .int (F 32)) C (hR.rdX 0 rfl) rfl in_X6 32 (by decide) q1211 (fun _ h9 => h9) rfl dX6_look_69 ?_
      refine lv_icmp_ne (tgt := 79) hx hb dX6_look_72 (by decide) (fun c32 => ?_) (fun c32 => ?_)
      · have hw := hw.2 c32
        exact kX6_look_b79 C hR hS (lv_sub hl [0] rfl) hw
      · have hw := hw.1 c32
        refine lv_iconst (v := 1) hx hb dX6_look_75 (by decide) ?_
        refine lv_goto (tgt := 80) hx hb dX6_look_76 (by decide) ?_
        exact kX6_look_b80 C hR hS (lv_sub hl [0] rfl) hw
  · have hw := hw.1 c30
    refine lv_aload_n hx hb dX6_look_38 rfl (lv_at hl 0 rfl) ?_
    refine x_get (ci := 5) (Cn := RX6) (T := TX6) (N := 55) (v := .int (F 25)) C (hR.rdX 0 rfl) rfl in_X6 25 (by decide) q1204 (fun _ h9 => h9) rfl dX6_look_39 ?_
    refine lv_bipush (v := 9) hx hb dX6_look_42 (by decide) ?_
    refine lv_icmp_eq (tgt := 51) hx hb dX6_look_44 (by decide) (fun c33 => ?_) (fun c33 => ?_)
    · have hw := hw.1 c33
      refine lv_iconst (v := 0) hx hb dX6_look_51 (by decide) ?_
      refine lv_goto (tgt := 80) hx hb dX6_look_52 (by decide) ?_
      exact kX6_look_b80 C hR hS (lv_sub hl [0] rfl) hw
    · have hw := hw.2 c33
      refine lv_iconst (v := 1) hx hb dX6_look_47 (by decide) ?_
      refine lv_goto (tgt := 80) hx hb dX6_look_48 (by decide) ?_
      exact kX6_look_b80 C hR hS (lv_sub hl [0] rfl) hw
end
def wX6_look (post : Int32 → (Nat → Int32) → (Nat → Nat → Int32) → Prop)  (F : (Nat → Int32)) (M : (Nat → Nat → Int32)) : Prop :=
  ((F 31) = 0 → wX6_look_b25 post F M) ∧ (¬ (F 31) = 0 → ((F 25) = 4 → wX6_has (fun r28 => (r28 = 0 → wX6_look_b25 post F M) ∧ (¬ r28 = 0 → wX6_look_b23 post F M)) 1 F M) ∧ (¬ (F 25) = 4 → wX6_look_b23 post F M))
theorem kX6_look (l : Launch) (D : va_G) (N0 : Nat) (gp : Nat → Nat) (ad : Nat → Nat) (XF : x_X) (h : x_H)  (F : (Nat → Int32)) (M : (Nat → Nat → Int32)) (post : Int32 → (Nat → Int32) → (Nat → Nat → Int32) → Prop) (hw : wX6_look post  F M) : Met l yX6_look (ws_ yX6_look cX6_look 2 (some .int)) rmX6_look (x_Pc D N0 gp (fixM ad F M ++ XF) h [.ref (ad 1000)]) (x_Qc D N0 (x_Vi (qMi ad XF h post))) 0 0 (x_A N0) := by
  refine x_start (lv := [(0, .ref (ad 1000))]) (by decide) rfl (Nat.le_of_ble_eq_true rfl) rfl ?_
  intro p e s m below meth c C hR ls hl
  have hS : va_S (x_A N0) s.heap s.heap [] := va_S.rf
  obtain ⟨⟨hx, hb, hml, hown, hts⟩, hr, hlocks, hG, hN⟩ := id C
  unfold wX6_look at hw
  refine lv_aload_n hx hb dX6_look_0 rfl (lv_at hl 0 rfl) ?_
  refine x_get (ci := 5) (Cn := RX6) (T := TX6) (N := 55) (v := .int (F 31)) C (hR.rdX 0 rfl) rfl in_X6 31 (by decide) q1210 (fun _ h9 => h9) rfl dX6_look_1 ?_
  refine lv_if_eq (tgt := 25) hx hb dX6_look_4 (by decide) (fun c26 => ?_) (fun c26 => ?_)
  · have hw := hw.1 c26
    exact kX6_look_b25 C hR hS (lv_sub hl [0] rfl) hw
  · have hw := hw.2 c26
    refine lv_aload_n hx hb dX6_look_7 rfl (lv_at hl 0 rfl) ?_
    refine x_get (ci := 5) (Cn := RX6) (T := TX6) (N := 55) (v := .int (F 25)) C (hR.rdX 0 rfl) rfl in_X6 25 (by decide) q1204 (fun _ h9 => h9) rfl dX6_look_8 ?_
    refine lv_iconst (v := 4) hx hb dX6_look_11 (by decide) ?_
    refine lv_icmp_ne (tgt := 23) hx hb dX6_look_12 (by decide) (fun c27 => ?_) (fun c27 => ?_)
    · have hw := hw.2 c27
      exact kX6_look_b23 C hR hS (lv_sub hl [] rfl) hw
    · have hw := hw.1 c27
      refine lv_aload_n hx hb dX6_look_15 rfl (lv_at hl 0 rfl) ?_
      refine lv_iconst (v := 1) hx hb dX6_look_16 (by decide) ?_
      refine x_calli0 (x_runV (n := 1) (As := [.int 1]) C hR hS (kX6_has l D N0 gp ad XF _ 1 F M _ hw) (lw_V q1407 q1409 qs50 q104 q1410) rfl rfl (by decide +kernel) ⟨Nat.le_of_ble_eq_true rfl, Nat.le_of_ble_eq_true rfl⟩ (x_recv C (hR.rdX 0 rfl) rfl) rfl hl.1 rfl (Nat.le_of_ble_eq_true rfl) dX6_look_17 ⟨Nat.le_refl _, Nat.le_refl _⟩) hS (fun r28 X1 h1 H locs hq hR hS => ?_)
      obtain ⟨e1, e2, hw⟩ := hq
      rw [e1, e2] at hR
      refine lv_if_eq (tgt := 25) hx hb dX6_look_20 (by decide) (fun c29 => ?_) (fun c29 => ?_)
      · have hw := hw.1 c29
        exact kX6_look_b25 C hR hS (lv_sub hl [0] rfl) hw
      · have hw := hw.2 c29
        exact kX6_look_b23 C hR hS (lv_sub hl [] rfl) hw
/-- PageServerModel.turn()I -/
abbrev rmX6_turn : Room := { frames := 0, cells := 0, slots := 0, locals := 0 }
section
variable {p : Program} {l : Launch} {e : Env} {s : State} {m : MethodId} {args : Array Value} {below : List Frame} {meth : Method} {c : Code} {D : va_G} {N0 : Nat} {gp : Nat → Nat} {ad : Nat → Nat} {XF : x_X} {h : x_H}
def wX6_turn_b109 (post : Int32 → Prop) (K8 : Int32 → Int32 → Int32 → Prop) (F : (Nat → Int32)) (M : (Nat → Nat → Int32)) (x2 : Int32) (x3 : Int32) (s0 : Int32) : Prop :=
  K8 s0 x2 (x3 + 1)
theorem kX6_turn_b109 {post : Int32 → Prop} {K8 : Int32 → Int32 → Int32 → Prop} {F : (Nat → Int32)} {M : (Nat → Nat → Int32)} (C : x_C p s m args meth c cX6_turn 6 (some .int) RX6 D N0 gp) (hK8 : ∀ (x1 : Int32) (x2 : Int32) (x3 : Int32) (H : Heap) (locs : List Loc) (ls : Array Slot), x_R D s N0 (fixM ad F M ++ XF) h H → va_S (x_A N0) s.heap H locs → lv_has ls 6 [(0, .ref (ad 1000)), (1, .int x1), (2, .int x2), (3, .int x3)] → K8 x1 x2 x3 → W p l e rmX6_turn s m args below meth c H locs 0 0 (MQ below (x_Qc D N0 (x_Vi (qPi (fixM ad F M ++ XF) h post))) args s 0 0 (x_A N0)) (F0 m 8 ls [])) {x2 : Int32} {x3 : Int32} {s0 : Int32} {H : Heap} {locs : List Loc} {ls : Array Slot} (hR : x_R D s N0 (fixM ad F M ++ XF) h H) (hS : va_S (x_A N0) s.heap H locs) (hl : lv_has ls 6 [(0, .ref (ad 1000)), (2, .int x2), (3, .int x3)]) (hw : wX6_turn_b109 post K8 F M x2 x3 s0) : W p l e rmX6_turn s m args below meth c H locs 0 0 (MQ below (x_Qc D N0 (x_Vi (qPi (fixM ad F M ++ XF) h post))) args s 0 0 (x_A N0)) (F0 m 109 ls [.int s0]) := by
  obtain ⟨⟨hx, hb, hml, hown, hts⟩, hr, hlocks, hG, hN⟩ := id C
  unfold wX6_turn_b109 at hw
  refine lv_istore_n (lv' := [(1, .int s0), (0, .ref (ad 1000)), (2, .int x2), (3, .int x3)]) hx hb dX6_turn_109 rfl hl (by decide) rfl (fun ls hl => ?_)
  refine lv_iinc (v := x3 + 1) (lv' := [(3, .int (x3 + 1)), (1, .int s0), (0, .ref (ad 1000)), (2, .int x2)]) hx hb dX6_turn_110 hl (k := 3) rfl (x_inc 1 1 (by decide)) (by decide) rfl (fun ls hl => ?_)
  refine lv_goto (tgt := 8) hx hb dX6_turn_113 (by decide) ?_
  exact hK8 _ _ _ _ _ _ hR hS (lv_sub hl [2, 1, 3, 0] rfl) hw
def wX6_turn_b98 (post : Int32 → Prop) (K8 : Int32 → Int32 → Int32 → Prop) (F : (Nat → Int32)) (M : (Nat → Nat → Int32)) (x1 : Int32) (x3 : Int32) (x5 : Int32) (s0 : Int32) : Prop :=
  (x5 = 0 → wX6_turn_b109 post K8 F M s0 x3 x1) ∧ (¬ x5 = 0 → wX6_turn_b109 post K8 F M s0 x3 x3)
theorem kX6_turn_b98 {post : Int32 → Prop} {K8 : Int32 → Int32 → Int32 → Prop} {F : (Nat → Int32)} {M : (Nat → Nat → Int32)} (C : x_C p s m args meth c cX6_turn 6 (some .int) RX6 D N0 gp) (hK8 : ∀ (x1 : Int32) (x2 : Int32) (x3 : Int32) (H : Heap) (locs : List Loc) (ls : Array Slot), x_R D s N0 (fixM ad F M ++ XF) h H → va_S (x_A N0) s.heap H locs → lv_has ls 6 [(0, .ref (ad 1000)), (1, .int x1), (2, .int x2), (3, .int x3)] → K8 x1 x2 x3 → W p l e rmX6_turn s m args below meth c H locs 0 0 (MQ below (x_Qc D N0 (x_Vi (qPi (fixM ad F M ++ XF) h post))) args s 0 0 (x_A N0)) (F0 m 8 ls [])) {x1 : Int32} {x3 : Int32} {x5 : Int32} {s0 : Int32} {H : Heap} {locs : List Loc} {ls : Array Slot} (hR : x_R D s N0 (fixM ad F M ++ XF) h H) (hS : va_S (x_A N0) s.heap H locs) (hl : lv_has ls 6 [(0, .ref (ad 1000)), (1, .int x1), (3, .int x3), (5, .int x5)]) (hw : wX6_turn_b98 post K8 F M x1 x3 x5 s0) : W p l e rmX6_turn s m args below meth c H locs 0 0 (MQ below (x_Qc D N0 (x_Vi (qPi (fixM ad F M ++ XF) h post))) args s 0 0 (x_A N0)) (F0 m 98 ls [.int s0]) := by
  obtain ⟨⟨hx, hb, hml, hown, hts⟩, hr, hlocks, hG, hN⟩ := id C
  unfold wX6_turn_b98 at hw
  refine lv_istore_n (lv' := [(2, .int s0), (0, .ref (ad 1000)), (1, .int x1), (3, .int x3), (5, .int x5)]) hx hb dX6_turn_98 rfl hl (by decide) rfl (fun ls hl => ?_)
  refine lv_iload hx hb dX6_turn_99 (lv_at hl 4 rfl) ?_
  refine lv_if_eq (tgt := 108) hx hb dX6_turn_101 (by decide) (fun c30 => ?_) (fun c30 => ?_)
  · have hw := hw.1 c30
    refine lv_iload_n hx hb dX6_turn_108 rfl (lv_at hl 2 rfl) ?_
    exact kX6_turn_b109 C hK8 hR hS (lv_sub hl [1, 0, 3] rfl) hw
  · have hw := hw.2 c30
    refine lv_iload_n hx hb dX6_turn_104 rfl (lv_at hl 3 rfl) ?_
    refine lv_goto (tgt := 109) hx hb dX6_turn_105 (by decide) ?_
    exact kX6_turn_b109 C hK8 hR hS (lv_sub hl [1, 0, 3] rfl) hw
def wX6_turn_b85 (post : Int32 → Prop) (K8 : Int32 → Int32 → Int32 → Prop) (F : (Nat → Int32)) (M : (Nat → Nat → Int32)) (x1 : Int32) (x2 : Int32) (x3 : Int32) (x4 : Int32) (s0 : Int32) : Prop :=
  (s0 = 0 → wX6_turn_b98 post K8 F M x1 x3 s0 x2) ∧ (¬ s0 = 0 → wX6_turn_b98 post K8 F M x1 x3 s0 x4)
theorem kX6_turn_b85 {post : Int32 → Prop} {K8 : Int32 → Int32 → Int32 → Prop} {F : (Nat → Int32)} {M : (Nat → Nat → Int32)} (C : x_C p s m args meth c cX6_turn 6 (some .int) RX6 D N0 gp) (hK8 : ∀ (x1 : Int32) (x2 : Int32) (x3 : Int32) (H : Heap) (locs : List Loc) (ls : Array Slot), x_R D s N0 (fixM ad F M ++ XF) h H → va_S (x_A N0) s.heap H locs → lv_has ls 6 [(0, .ref (ad 1000)), (1, .int x1), (2, .int x2), (3, .int x3)] → K8 x1 x2 x3 → W p l e rmX6_turn s m args below meth c H locs 0 0 (MQ below (x_Qc D N0 (x_Vi (qPi (fixM ad F M ++ XF) h post))) args s 0 0 (x_A N0)) (F0 m 8 ls [])) {x1 : Int32} {x2 : Int32} {x3 : Int32} {x4 : Int32} {s0 : Int32} {H : Heap} {locs : List Loc} {ls : Array Slot} (hR : x_R D s N0 (fixM ad F M ++ XF) h H) (hS : va_S (x_A N0) s.heap H locs) (hl : lv_has ls 6 [(0, .ref (ad 1000)), (1, .int x1), (2, .int x2), (3, .int x3), (4, .int x4)]) (hw : wX6_turn_b85 post K8 F M x1 x2 x3 x4 s0) : W p l e rmX6_turn s m args below meth c H locs 0 0 (MQ below (x_Qc D N0 (x_Vi (qPi (fixM ad F M ++ XF) h post))) args s 0 0 (x_A N0)) (F0 m 85 ls [.int s0]) := by
  obtain ⟨⟨hx, hb, hml, hown, hts⟩, hr, hlocks, hG, hN⟩ := id C
  unfold wX6_turn_b85 at hw
  refine lv_istore (lv' := [(5, .int s0), (0, .ref (ad 1000)), (1, .int x1), (2, .int x2), (3, .int x3), (4, .int x4)]) hx hb dX6_turn_85 hl (by decide) rfl (fun ls hl => ?_)
  refine lv_iload hx hb dX6_turn_87 (lv_at hl 0 rfl) ?_
  refine lv_if_eq (tgt := 97) hx hb dX6_turn_89 (by decide) (fun c29 => ?_) (fun c29 => ?_)
  · have hw := hw.1 c29
    refine lv_iload_n hx hb dX6_turn_97 rfl (lv_at hl 3 rfl) ?_
    exact kX6_turn_b98 C hK8 hR hS (lv_sub hl [1, 2, 4, 0] rfl) hw
  · have hw := hw.2 c29
    refine lv_iload hx hb dX6_turn_92 (lv_at hl 5 rfl) ?_
    refine lv_goto (tgt := 98) hx hb dX6_turn_94 (by decide) ?_
    exact kX6_turn_b98 C hK8 hR hS (lv_sub hl [1, 2, 4, 0] rfl) hw
def wX6_turn_b84 (post : Int32 → Prop) (K8 : Int32 → Int32 → Int32 → Prop) (F : (Nat → Int32)) (M : (Nat → Nat → Int32)) (x1 : Int32) (x2 : Int32) (x3 : Int32) (x4 : Int32) : Prop :=
  wX6_turn_b85 post K8 F M x1 x2 x3 x4 0
theorem kX6_turn_b84 {post : Int32 → Prop} {K8 : Int32 → Int32 → Int32 → Prop} {F : (Nat → Int32)} {M : (Nat → Nat → Int32)} (C : x_C p s m args meth c cX6_turn 6 (some .int) RX6 D N0 gp) (hK8 : ∀ (x1 : Int32) (x2 : Int32) (x3 : Int32) (H : Heap) (locs : List Loc) (ls : Array Slot), x_R D s N0 (fixM ad F M ++ XF) h H → va_S (x_A N0) s.heap H locs → lv_has ls 6 [(0, .ref (ad 1000)), (1, .int x1), (2, .int x2), (3, .int x3)] → K8 x1 x2 x3 → W p l e rmX6_turn s m args below meth c H locs 0 0 (MQ below (x_Qc D N0 (x_Vi (qPi (fixM ad F M ++ XF) h post))) args s 0 0 (x_A N0)) (F0 m 8 ls [])) {x1 : Int32} {x2 : Int32} {x3 : Int32} {x4 : Int32} {H : Heap} {locs : List Loc} {ls : Array Slot} (hR : x_R D s N0 (fixM ad F M ++ XF) h H) (hS : va_S (x_A N0) s.heap H locs) (hl : lv_has ls 6 [(0, .ref (ad 1000)), (1, .int x1), (2, .int x2), (3, .int x3), (4, .int x4)]) (hw : wX6_turn_b84 post K8 F M x1 x2 x3 x4) : W p l e rmX6_turn s m args below meth c H locs 0 0 (MQ below (x_Qc D N0 (x_Vi (qPi (fixM ad F M ++ XF) h post))) args s 0 0 (x_A N0)) (F0 m 84 ls []) := by
  obtain ⟨⟨hx, hb, hml, hown, hts⟩, hr, hlocks, hG, hN⟩ := id C
  unfold wX6_turn_b84 at hw
  refine lv_iconst (v := 0) hx hb dX6_turn_84 (by decide) ?_
  exact kX6_turn_b85 C hK8 hR hS (lv_sub hl [0, 1, 2, 3, 4] rfl) hw
def wX6_turn_b45 (post : Int32 → Prop) (K8 : Int32 → Int32 → Int32 → Prop) (F : (Nat → Int32)) (M : (Nat → Nat → Int32)) (x1 : Int32) (x2 : Int32) (x3 : Int32) (s0 : Int32) : Prop :=
  vp_in x3 4 ∧ (((M 12) x3.toNatClampNeg) ≤ 0 → wX6_turn_b84 post K8 F M x1 x2 x3 s0) ∧ (¬ ((M 12) x3.toNatClampNeg) ≤ 0 → vp_in x3 4 ∧ (((M 16) x3.toNatClampNeg) ≤ 0 → wX6_turn_b84 post K8 F M x1 x2 x3 s0) ∧ (¬ ((M 16) x3.toNatClampNeg) ≤ 0 → vp_in x3 4 ∧ (((M 13) x3.toNatClampNeg) ≤ 0 → wX6_turn_b84 post K8 F M x1 x2 x3 s0) ∧ (¬ ((M 13) x3.toNatClampNeg) ≤ 0 → (x2 ≤ s0 → wX6_turn_b84 post K8 F M x1 x2 x3 s0) ∧ (¬ x2 ≤ s0 → wX6_turn_b85 post K8 F M x1 x2 x3 s0 1))))
theorem kX6_turn_b45 {post : Int32 → Prop} {K8 : Int32 → Int32 → Int32 → Prop} {F : (Nat → Int32)} {M : (Nat → Nat → Int32)} (C : x_C p s m args meth c cX6_turn 6 (some .int) RX6 D N0 gp) (hK8 : ∀ (x1 : Int32) (x2 : Int32) (x3 : Int32) (H : Heap) (locs : List Loc) (ls : Array Slot), x_R D s N0 (fixM ad F M ++ XF) h H → va_S (x_A N0) s.heap H locs → lv_has ls 6 [(0, .ref (ad 1000)), (1, .int x1), (2, .int x2), (3, .int x3)] → K8 x1 x2 x3 → W p l e rmX6_turn s m args below meth c H locs 0 0 (MQ below (x_Qc D N0 (x_Vi (qPi (fixM ad F M ++ XF) h post))) args s 0 0 (x_A N0)) (F0 m 8 ls [])) {x1 : Int32} {x2 : Int32} {x3 : Int32} {s0 : Int32} {H : Heap} {locs : List Loc} {ls : Array Slot} (hR : x_R D s N0 (fixM ad F M ++ XF) h H) (hS : va_S (x_A N0) s.heap H locs) (hl : lv_has ls 6 [(0, .ref (ad 1000)), (1, .int x1), (2, .int x2), (3, .int x3)]) (hw : wX6_turn_b45 post K8 F M x1 x2 x3 s0) : W p l e rmX6_turn s m args below meth c H locs 0 0 (MQ below (x_Qc D N0 (x_Vi (qPi (fixM ad F M ++ XF) h post))) args s 0 0 (x_A N0)) (F0 m 45 ls [.int s0]) := by
  obtain ⟨⟨hx, hb, hml, hown, hts⟩, hr, hlocks, hG, hN⟩ := id C
  unfold wX6_turn_b45 at hw
  refine lv_istore (lv' := [(4, .int s0), (0, .ref (ad 1000)), (1, .int x1), (2, .int x2), (3, .int x3)]) hx hb dX6_turn_45 hl (by decide) rfl (fun ls hl => ?_)
  refine lv_aload_n hx hb dX6_turn_47 rfl (lv_at hl 1 rfl) ?_
  refine x_get (ci := 5) (Cn := RX6) (T := TX6) (N := 55) (v := .ref (ad 12)) C (hR.rdX 0 rfl) rfl in_X6 12 (by decide) q1191 (fun _ h9 => h9) rfl dX6_turn_48 ?_
  refine lv_iload_n hx hb dX6_turn_51 rfl (lv_at hl 4 rfl) ?_
  obtain ⟨b22, hw⟩ := hw
  refine x_iald (n := 4) (f := (M 12)) C (hR.rdX 9 rfl) b22 dX6_turn_52 ?_
  refine lv_if_le (tgt := 84) hx hb dX6_turn_53 (by decide) (fun c23 => ?_) (fun c23 => ?_)
  · have hw := hw.1 c23
    exact kX6_turn_b84 C hK8 hR hS (lv_sub hl [1, 2, 3, 4, 0] rfl) hw
  · have hw := hw.2 c23
    refine lv_aload_n hx hb dX6_turn_56 rfl (lv_at hl 1 rfl) ?_
    refine x_get (ci := 5) (Cn := RX6) (T := TX6) (N := 55) (v := .ref (ad 16)) C (hR.rdX 0 rfl) rfl in_X6 16 (by decide) q1195 (fun _ h9 => h9) rfl dX6_turn_57 ?_
    refine lv_iload_n hx hb dX6_turn_60 rfl (lv_at hl 4 rfl) ?_
    obtain ⟨b24, hw⟩ := hw
    refine x_iald (n := 4) (f := (M 16)) C (hR.rdX 13 rfl) b24 dX6_turn_61 ?_
    refine lv_if_le (tgt := 84) hx hb dX6_turn_62 (by decide) (fun c25 => ?_) (fun c25 => ?_)
    · have hw := hw.1 c25
      exact kX6_turn_b84 C hK8 hR hS (lv_sub hl [1, 2, 3, 4, 0] rfl) hw
    · have hw := hw.2 c25
      refine lv_aload_n hx hb dX6_turn_65 rfl (lv_at hl 1 rfl) ?_
      refine x_get (ci := 5) (Cn := RX6) (T := TX6) (N := 55) (v := .ref (ad 13)) C (hR.rdX 0 rfl) rfl in_X6 13 (by decide) q1192 (fun _ h9 => h9) rfl dX6_turn_66 ?_
      refine lv_iload_n hx hb dX6_turn_69 rfl (lv_at hl 4 rfl) ?_
      obtain ⟨b26, hw⟩ := hw
      refine x_iald (n := 4) (f := (M 13)) C (hR.rdX 10 rfl) b26 dX6_turn_70 ?_
      refine lv_if_le (tgt := 84) hx hb dX6_turn_71 (by decide) (fun c27 => ?_) (fun c27 => ?_)
      · have hw := hw.1 c27
        exact kX6_turn_b84 C hK8 hR hS (lv_sub hl [1, 2, 3, 4, 0] rfl) hw
      · have hw := hw.2 c27
        refine lv_iload hx hb dX6_turn_74 (lv_at hl 0 rfl) ?_
        refine lv_iload_n hx hb dX6_turn_76 rfl (lv_at hl 3 rfl) ?_
        refine lv_icmp_ge (tgt := 84) hx hb dX6_turn_77 (by decide) (fun c28 => ?_) (fun c28 => ?_)
        · have hw := hw.1 c28
          exact kX6_turn_b84 C hK8 hR hS (lv_sub hl [1, 2, 3, 4, 0] rfl) hw
        · have hw := hw.2 c28
          refine lv_iconst (v := 1) hx hb dX6_turn_80 (by decide) ?_
          refine lv_goto (tgt := 85) hx hb dX6_turn_81 (by decide) ?_
          exact kX6_turn_b85 C hK8 hR hS (lv_sub hl [1, 2, 3, 4, 0] rfl) hw
def wX6_turn_b116 (post : Int32 → Prop) (F : (Nat → Int32)) (M : (Nat → Nat → Int32)) (x1 : Int32) : Prop :=
  post x1 
theorem kX6_turn_b116 {post : Int32 → Prop} {F : (Nat → Int32)} {M : (Nat → Nat → Int32)} (C : x_C p s m args meth c cX6_turn 6 (some .int) RX6 D N0 gp) {x1 : Int32} {H : Heap} {locs : List Loc} {ls : Array Slot} (hR : x_R D s N0 (fixM ad F M ++ XF) h H) (hS : va_S (x_A N0) s.heap H locs) (hl : lv_has ls 6 [(1, .int x1)]) (hw : wX6_turn_b116 post F M x1) : W p l e rmX6_turn s m args below meth c H locs 0 0 (MQ below (x_Qc D N0 (x_Vi (qPi (fixM ad F M ++ XF) h post))) args s 0 0 (x_A N0)) (F0 m 116 ls []) := by
  obtain ⟨⟨hx, hb, hml, hown, hts⟩, hr, hlocks, hG, hN⟩ := id C
  unfold wX6_turn_b116 at hw
  refine lv_iload_n hx hb dX6_turn_116 rfl (lv_at hl 0 rfl) ?_
  exact x_endi C hR hS ⟨_, rfl, ⟨rfl, rfl, hw⟩⟩ (Nat.le_refl _) (Nat.le_refl _) dX6_turn_117
def tX6_turn_b8 (post : Int32 → Prop) (K8 : Int32 → Int32 → Int32 → Prop) (F : (Nat → Int32)) (M : (Nat → Nat → Int32)) (x1 : Int32) (x2 : Int32) (x3 : Int32) : Prop :=
  ((4 : Int32) ≤ x3 → wX6_turn_b116 post F M x1) ∧ (¬ (4 : Int32) ≤ x3 → vp_in x3 4 ∧ (((M 12) x3.toNatClampNeg) ≤ (F 49) → vp_in x3 4 ∧ wX6_turn_b45 post K8 F M x1 x2 x3 (((M 12) x3.toNatClampNeg) + 300)) ∧ (¬ ((M 12) x3.toNatClampNeg) ≤ (F 49) → vp_in x3 4 ∧ wX6_turn_b45 post K8 F M x1 x2 x3 ((M 12) x3.toNatClampNeg)))
def wX6_turn_b8 (post : Int32 → Prop) (F : (Nat → Int32)) (M : (Nat → Nat → Int32)) : Nat → Int32 → Int32 → Int32 → Prop
  | 0 => fun _ _ _ => False
  | n + 1 => fun x1 x2 x3 => tX6_turn_b8 post (wX6_turn_b8 post F M n) F M x1 x2 x3
theorem kX6_turn_b8 {post : Int32 → Prop} {F : (Nat → Int32)} {M : (Nat → Nat → Int32)} (C : x_C p s m args meth c cX6_turn 6 (some .int) RX6 D N0 gp) : ∀ (nn : Nat) (x1 : Int32) (x2 : Int32) (x3 : Int32) (H : Heap) (locs : List Loc) (ls : Array Slot), x_R D s N0 (fixM ad F M ++ XF) h H → va_S (x_A N0) s.heap H locs → lv_has ls 6 [(0, .ref (ad 1000)), (1, .int x1), (2, .int x2), (3, .int x3)] → wX6_turn_b8 post F M nn x1 x2 x3 → W p l e rmX6_turn s m args below meth c H locs 0 0 (MQ below (x_Qc D N0 (x_Vi (qPi (fixM ad F M ++ XF) h post))) args s 0 0 (x_A N0)) (F0 m 8 ls []) := by
  obtain ⟨⟨hx, hb, hml, hown, hts⟩, hr, hlocks, hG, hN⟩ := id C
  intro nn
  induction nn with
  | zero =>
    intro x1 x2 x3 H locs ls hR hS hl hw
    exact False.elim hw
  | succ nn ih =>
    intro x1 x2 x3 H locs ls hR hS hl hw
    have hK8 := ih
    have hw : tX6_turn_b8 post (wX6_turn_b8 post F M nn) F M x1 x2 x3 := hw
    unfold tX6_turn_b8 at hw
    refine lv_iload_n hx hb dX6_turn_8 rfl (lv_at hl 3 rfl) ?_
    refine lv_iconst (v := 4) hx hb dX6_turn_9 (by decide) ?_
    refine lv_icmp_ge (tgt := 116) hx hb dX6_turn_10 (by decide) (fun c17 => ?_) (fun c17 => ?_)
    · have hw := hw.1 c17
      exact kX6_turn_b116 C hR hS (lv_sub hl [1] rfl) hw
    · have hw := hw.2 c17
      refine lv_aload_n hx hb dX6_turn_13 rfl (lv_at hl 0 rfl) ?_
      refine x_get (ci := 5) (Cn := RX6) (T := TX6) (N := 55) (v := .ref (ad 12)) C (hR.rdX 0 rfl) rfl in_X6 12 (by decide) q1191 (fun _ h9 => h9) rfl dX6_turn_14 ?_
      refine lv_iload_n hx hb dX6_turn_17 rfl (lv_at hl 3 rfl) ?_
      obtain ⟨b18, hw⟩ := hw
      refine x_iald (n := 4) (f := (M 12)) C (hR.rdX 9 rfl) b18 dX6_turn_18 ?_
      refine lv_aload_n hx hb dX6_turn_19 rfl (lv_at hl 0 rfl) ?_
      refine x_get (ci := 5) (Cn := RX6) (T := TX6) (N := 55) (v := .int (F 49)) C (hR.rdX 0 rfl) rfl in_X6 49 (by decide) q1228 (fun _ h9 => h9) rfl dX6_turn_20 ?_
      refine lv_icmp_le (tgt := 35) hx hb dX6_turn_23 (by decide) (fun c19 => ?_) (fun c19 => ?_)
      · have hw := hw.1 c19
        refine lv_aload_n hx hb dX6_turn_35 rfl (lv_at hl 0 rfl) ?_
        refine x_get (ci := 5) (Cn := RX6) (T := TX6) (N := 55) (v := .ref (ad 12)) C (hR.rdX 0 rfl) rfl in_X6 12 (by decide) q1191 (fun _ h9 => h9) rfl dX6_turn_36 ?_
        refine lv_iload_n hx hb dX6_turn_39 rfl (lv_at hl 3 rfl) ?_
        obtain ⟨b20, hw⟩ := hw
        refine x_iald (n := 4) (f := (M 12)) C (hR.rdX 9 rfl) b20 dX6_turn_40 ?_
        refine lv_sipush (v := 300) hx hb dX6_turn_41 (by decide) ?_
        refine lv_iadd hx hb dX6_turn_44 ?_
        exact kX6_turn_b45 C hK8 hR hS (lv_sub hl [0, 1, 2, 3] rfl) hw
      · have hw := hw.2 c19
        refine lv_aload_n hx hb dX6_turn_26 rfl (lv_at hl 0 rfl) ?_
        refine x_get (ci := 5) (Cn := RX6) (T := TX6) (N := 55) (v := .ref (ad 12)) C (hR.rdX 0 rfl) rfl in_X6 12 (by decide) q1191 (fun _ h9 => h9) rfl dX6_turn_27 ?_
        refine lv_iload_n hx hb dX6_turn_30 rfl (lv_at hl 3 rfl) ?_
        obtain ⟨b21, hw⟩ := hw
        refine x_iald (n := 4) (f := (M 12)) C (hR.rdX 9 rfl) b21 dX6_turn_31 ?_
        refine lv_goto (tgt := 45) hx hb dX6_turn_32 (by decide) ?_
        exact kX6_turn_b45 C hK8 hR hS (lv_sub hl [0, 1, 2, 3] rfl) hw
end
def wX6_turn (post : Int32 → Prop) (F : (Nat → Int32)) (M : (Nat → Nat → Int32)) : Prop :=
  ∃ n16 : Nat, wX6_turn_b8 post F M n16 (-1) 1000 0
theorem kX6_turn (l : Launch) (D : va_G) (N0 : Nat) (gp : Nat → Nat) (ad : Nat → Nat) (XF : x_X) (h : x_H) (F : (Nat → Int32)) (M : (Nat → Nat → Int32)) (post : Int32 → Prop) (hw : wX6_turn post F M ) : Met l yX6_turn (ws_ yX6_turn cX6_turn 6 (some .int)) rmX6_turn (x_Pc D N0 gp (fixM ad F M ++ XF) h [.ref (ad 1000)]) (x_Qc D N0 (x_Vi (qPi (fixM ad F M ++ XF) h post))) 0 0 (x_A N0) := by
  refine x_start (lv := [(0, .ref (ad 1000))]) (by decide) rfl (Nat.le_of_ble_eq_true rfl) rfl ?_
  intro p e s m below meth c C hR ls hl
  have hS : va_S (x_A N0) s.heap s.heap [] := va_S.rf
  obtain ⟨⟨hx, hb, hml, hown, hts⟩, hr, hlocks, hG, hN⟩ := id C
  unfold wX6_turn at hw
  refine lv_iconst (v := -1) hx hb dX6_turn_0 (by decide) ?_
  refine lv_istore_n (lv' := [(1, .int (-1)), (0, .ref (ad 1000))]) hx hb dX6_turn_1 rfl hl (by decide) rfl (fun ls hl => ?_)
  refine lv_sipush (v := 1000) hx hb dX6_turn_2 (by decide) ?_
  refine lv_istore_n (lv' := [(2, .int 1000), (1, .int (-1)), (0, .ref (ad 1000))]) hx hb dX6_turn_5 rfl hl (by decide) rfl (fun ls hl => ?_)
  refine lv_iconst (v := 0) hx hb dX6_turn_6 (by decide) ?_
  refine lv_istore_n (lv' := [(3, .int 0), (2, .int 1000), (1, .int (-1)), (0, .ref (ad 1000))]) hx hb dX6_turn_7 rfl hl (by decide) rfl (fun ls hl => ?_)
  obtain ⟨n16, hw⟩ := hw
  exact kX6_turn_b8 C n16 _ _ _ _ _ _ hR hS (lv_sub hl [3, 2, 1, 0] rfl) hw
/-- PageServerModel.less(II)I -/
abbrev rmX6_less : Room := { frames := 0, cells := 0, slots := 0, locals := 0 }
section
variable {p : Program} {l : Launch} {e : Env} {s : State} {m : MethodId} {args : Array Value} {below : List Frame} {meth : Method} {c : Code} {D : va_G} {N0 : Nat} {gp : Nat → Nat} {X : x_X} {h : x_H}
def wX6_less_b10 (post : Int32 → Prop) (p0 : Int32) (p1 : Int32) (s0 : Int32) : Prop :=
  post s0 
theorem kX6_less_b10 {post : Int32 → Prop} {p0 : Int32} {p1 : Int32} (C : x_C p s m args meth c cX6_less 2 (some .int) RX6 D N0 gp) {s0 : Int32} {H : Heap} {locs : List Loc} {ls : Array Slot} (hR : x_R D s N0 X h H) (hS : va_S (x_A N0) s.heap H locs) (hl : lv_has ls 2 []) (hw : wX6_less_b10 post p0 p1 s0) : W p l e rmX6_less s m args below meth c H locs 0 0 (MQ below (x_Qc D N0 (x_Vi (qPi X h post))) args s 0 0 (x_A N0)) (F0 m 10 ls [.int s0]) := by
  obtain ⟨⟨hx, hb, hml, hown, hts⟩, hr, hlocks, hG, hN⟩ := id C
  unfold wX6_less_b10 at hw
  exact x_endi C hR hS ⟨_, rfl, ⟨rfl, rfl, hw⟩⟩ (Nat.le_refl _) (Nat.le_refl _) dX6_less_10
end
def wX6_less (post : Int32 → Prop) (p0 : Int32) (p1 : Int32) : Prop :=
  (p1 ≤ p0 → wX6_less_b10 post p0 p1 p1) ∧ (¬ p1 ≤ p0 → wX6_less_b10 post p0 p1 p0)
theorem kX6_less (l : Launch) (D : va_G) (N0 : Nat) (gp : Nat → Nat) (X : x_X) (h : x_H) (p0 : Int32) (p1 : Int32) (post : Int32 → Prop) (hw : wX6_less post p0 p1 ) : Met l yX6_less (ws_ yX6_less cX6_less 2 (some .int)) rmX6_less (x_Pc D N0 gp X h [.int p0, .int p1]) (x_Qc D N0 (x_Vi (qPi X h post))) 0 0 (x_A N0) := by
  refine x_start (lv := [(0, .int p0), (1, .int p1)]) (by decide) rfl (Nat.le_of_ble_eq_true rfl) rfl ?_
  intro p e s m below meth c C hR ls hl
  have hS : va_S (x_A N0) s.heap s.heap [] := va_S.rf
  obtain ⟨⟨hx, hb, hml, hown, hts⟩, hr, hlocks, hG, hN⟩ := id C
  unfold wX6_less at hw
  refine lv_iload_n hx hb dX6_less_0 rfl (lv_at hl 0 rfl) ?_
  refine lv_iload_n hx hb dX6_less_1 rfl (lv_at hl 1 rfl) ?_
  refine lv_icmp_ge (tgt := 9) hx hb dX6_less_2 (by decide) (fun c2 => ?_) (fun c2 => ?_)
  · have hw := hw.1 c2
    refine lv_iload_n hx hb dX6_less_9 rfl (lv_at hl 1 rfl) ?_
    exact kX6_less_b10 C hR hS (lv_sub hl [] rfl) hw
  · have hw := hw.2 c2
    refine lv_iload_n hx hb dX6_less_5 rfl (lv_at hl 0 rfl) ?_
    refine lv_goto (tgt := 10) hx hb dX6_less_6 (by decide) ?_
    exact kX6_less_b10 C hR hS (lv_sub hl [] rfl) hw
/-- PageServerModel.pump()V -/
abbrev rmX6_pump : Room := { frames := 2, cells := 0, slots := 0, locals := 45 }
section
variable {p : Program} {l : Launch} {e : Env} {s : State} {m : MethodId} {args : Array Value} {below : List Frame} {meth : Method} {c : Code} {D : va_G} {N0 : Nat} {gp : Nat → Nat} {ad : Nat → Nat} {XF : x_X} {h : x_H}
def wX6_pump_b152 (post : (Nat → Int32) → (Nat → Nat → Int32) → Prop) (K5 : (Nat → Int32) → (Nat → Nat → Int32) → Int32 → Prop)  (F : (Nat → Int32)) (M : (Nat → Nat → Int32)) : Prop :=
  wX6_turn (fun r52 => K5 F M r52) F M
theorem kX6_pump_b152 {post : (Nat → Int32) → (Nat → Nat → Int32) → Prop} {K5 : (Nat → Int32) → (Nat → Nat → Int32) → Int32 → Prop} (C : x_C p s m args meth c cX6_pump 4 none RX6 D N0 gp) (hK5 : ∀ (F : (Nat → Int32)) (M : (Nat → Nat → Int32)) (x1 : Int32) (H : Heap) (locs : List Loc) (ls : Array Slot), x_R D s N0 (fixM ad F M ++ XF) h H → va_S (x_A N0) s.heap H locs → lv_has ls 4 [(0, .ref (ad 1000)), (1, .int x1)] → K5 F M x1 → W p l e rmX6_pump s m args below meth c H locs 0 0 (MQ below (x_Qc D N0 (x_Vv (qMv ad XF h post))) args s 0 0 (x_A N0)) (F0 m 5 ls [])) {F : (Nat → Int32)} {M : (Nat → Nat → Int32)} {H : Heap} {locs : List Loc} {ls : Array Slot} (hR : x_R D s N0 (fixM ad F M ++ XF) h H) (hS : va_S (x_A N0) s.heap H locs) (hl : lv_has ls 4 [(0, .ref (ad 1000))]) (hw : wX6_pump_b152 post K5 F M) : W p l e rmX6_pump s m args below meth c H locs 0 0 (MQ below (x_Qc D N0 (x_Vv (qMv ad XF h post))) args s 0 0 (x_A N0)) (F0 m 152 ls []) := by
  obtain ⟨⟨hx, hb, hml, hown, hts⟩, hr, hlocks, hG, hN⟩ := id C
  unfold wX6_pump_b152 at hw
  refine lv_aload_n hx hb dX6_pump_152 rfl (lv_at hl 0 rfl) ?_
  refine x_calli0 (x_runV (n := 0) (As := []) C hR hS (kX6_turn l D N0 gp ad XF _ F M _ hw) (lw_V q1540 q1542 qs83 q104 q1543) rfl rfl (by decide +kernel) ⟨Nat.le_of_ble_eq_true rfl, Nat.le_of_ble_eq_true rfl⟩ (x_recv C (hR.rdX 0 rfl) rfl) rfl hl.1 rfl (Nat.le_of_ble_eq_true rfl) dX6_pump_153 ⟨Nat.le_refl _, Nat.le_refl _⟩) hS (fun r52 X1 h1 H locs hq hR hS => ?_)
  obtain ⟨e1, e2, hw⟩ := hq
  rw [e1, e2] at hR
  refine lv_istore_n (lv' := [(1, .int r52), (0, .ref (ad 1000))]) hx hb dX6_pump_156 rfl hl (by decide) rfl (fun ls hl => ?_)
  refine lv_goto (tgt := 5) hx hb dX6_pump_157 (by decide) ?_
  exact hK5 _ _ _ _ _ _ hR hS (lv_sub hl [1, 0] rfl) hw
def wX6_pump_b136 (post : (Nat → Int32) → (Nat → Nat → Int32) → Prop) (K5 : (Nat → Int32) → (Nat → Nat → Int32) → Int32 → Prop)  (F : (Nat → Int32)) (M : (Nat → Nat → Int32)) (x1 : Int32) : Prop :=
  vp_in x1 4 ∧ (((M 16) x1.toNatClampNeg) = 0 → vp_in x1 4 ∧ wX6_pump_b152 post K5 F (va_up M 12 (upd (M 12) x1.toNatClampNeg 0))) ∧ (¬ ((M 16) x1.toNatClampNeg) = 0 → wX6_pump_b152 post K5 F M)
theorem kX6_pump_b136 {post : (Nat → Int32) → (Nat → Nat → Int32) → Prop} {K5 : (Nat → Int32) → (Nat → Nat → Int32) → Int32 → Prop} (C : x_C p s m args meth c cX6_pump 4 none RX6 D N0 gp) (hK5 : ∀ (F : (Nat → Int32)) (M : (Nat → Nat → Int32)) (x1 : Int32) (H : Heap) (locs : List Loc) (ls : Array Slot), x_R D s N0 (fixM ad F M ++ XF) h H → va_S (x_A N0) s.heap H locs → lv_has ls 4 [(0, .ref (ad 1000)), (1, .int x1)] → K5 F M x1 → W p l e rmX6_pump s m args below meth c H locs 0 0 (MQ below (x_Qc D N0 (x_Vv (qMv ad XF h post))) args s 0 0 (x_A N0)) (F0 m 5 ls [])) {F : (Nat → Int32)} {M : (Nat → Nat → Int32)} {x1 : Int32} {H : Heap} {locs : List Loc} {ls : Array Slot} (hR : x_R D s N0 (fixM ad F M ++ XF) h H) (hS : va_S (x_A N0) s.heap H locs) (hl : lv_has ls 4 [(0, .ref (ad 1000)), (1, .int x1)]) (hw : wX6_pump_b136 post K5 F M x1) : W p l e rmX6_pump s m args below meth c H locs 0 0 (MQ below (x_Qc D N0 (x_Vv (qMv ad XF h post))) args s 0 0 (x_A N0)) (F0 m 136 ls []) := by
  obtain ⟨⟨hx, hb, hml, hown, hts⟩, hr, hlocks, hG, hN⟩ := id C
  unfold wX6_pump_b136 at hw
  refine lv_aload_n hx hb dX6_pump_136 rfl (lv_at hl 0 rfl) ?_
  refine x_get (ci := 5) (Cn := RX6) (T := TX6) (N := 55) (v := .ref (ad 16)) C (hR.rdX 0 rfl) rfl in_X6 16 (by decide) q1195 (fun _ h9 => h9) rfl dX6_pump_137 ?_
  refine lv_iload_n hx hb dX6_pump_140 rfl (lv_at hl 1 rfl) ?_
  obtain ⟨b49, hw⟩ := hw
  refine x_iald (n := 4) (f := (M 16)) C (hR.rdX 13 rfl) b49 dX6_pump_141 ?_
  refine lv_if_ne (tgt := 152) hx hb dX6_pump_142 (by decide) (fun c50 => ?_) (fun c50 => ?_)
  · have hw := hw.2 c50
    exact kX6_pump_b152 C hK5 hR hS (lv_sub hl [0] rfl) hw
  · have hw := hw.1 c50
    refine lv_aload_n hx hb dX6_pump_145 rfl (lv_at hl 0 rfl) ?_
    refine x_get (ci := 5) (Cn := RX6) (T := TX6) (N := 55) (v := .ref (ad 12)) C (hR.rdX 0 rfl) rfl in_X6 12 (by decide) q1191 (fun _ h9 => h9) rfl dX6_pump_146 ?_
    refine lv_iload_n hx hb dX6_pump_149 rfl (lv_at hl 1 rfl) ?_
    refine lv_iconst (v := 0) hx hb dX6_pump_150 (by decide) ?_
    obtain ⟨b51, hw⟩ := hw
    refine x_iastX (n := 4) (f := (M 12)) C hR hS 9 rfl b51 (sM_a12 ..) dX6_pump_151 (fun H locs hR hS => ?_)
    exact kX6_pump_b152 C hK5 hR hS (lv_sub hl [0] rfl) hw
def tX6_pump_b115 (post : (Nat → Int32) → (Nat → Nat → Int32) → Prop) (K5 : (Nat → Int32) → (Nat → Nat → Int32) → Int32 → Prop) (K115 : (Nat → Int32) → (Nat → Nat → Int32) → Int32 → Int32 → Int32 → Prop)  (F : (Nat → Int32)) (M : (Nat → Nat → Int32)) (x1 : Int32) (x2 : Int32) (x3 : Int32) : Prop :=
  (x2 ≤ x3 → wX6_pump_b136 post K5 F M x1) ∧ (¬ x2 ≤ x3 → vp_in x1 4 ∧ wX6_say (fun F48 M48 => K115 F48 M48 x1 x2 (x3 + 1)) ((M 17) x1.toNatClampNeg) F M)
def wX6_pump_b115 (post : (Nat → Int32) → (Nat → Nat → Int32) → Prop) (K5 : (Nat → Int32) → (Nat → Nat → Int32) → Int32 → Prop)  : Nat → (Nat → Int32) → (Nat → Nat → Int32) → Int32 → Int32 → Int32 → Prop
  | 0 => fun _ _ _ _ _ => False
  | n + 1 => fun F M x1 x2 x3 => tX6_pump_b115 post K5 (wX6_pump_b115 post K5 n)  F M x1 x2 x3
theorem kX6_pump_b115 {post : (Nat → Int32) → (Nat → Nat → Int32) → Prop} {K5 : (Nat → Int32) → (Nat → Nat → Int32) → Int32 → Prop} (C : x_C p s m args meth c cX6_pump 4 none RX6 D N0 gp) (hK5 : ∀ (F : (Nat → Int32)) (M : (Nat → Nat → Int32)) (x1 : Int32) (H : Heap) (locs : List Loc) (ls : Array Slot), x_R D s N0 (fixM ad F M ++ XF) h H → va_S (x_A N0) s.heap H locs → lv_has ls 4 [(0, .ref (ad 1000)), (1, .int x1)] → K5 F M x1 → W p l e rmX6_pump s m args below meth c H locs 0 0 (MQ below (x_Qc D N0 (x_Vv (qMv ad XF h post))) args s 0 0 (x_A N0)) (F0 m 5 ls [])) : ∀ (nn : Nat) (F : (Nat → Int32)) (M : (Nat → Nat → Int32)) (x1 : Int32) (x2 : Int32) (x3 : Int32) (H : Heap) (locs : List Loc) (ls : Array Slot), x_R D s N0 (fixM ad F M ++ XF) h H → va_S (x_A N0) s.heap H locs → lv_has ls 4 [(0, .ref (ad 1000)), (1, .int x1), (2, .int x2), (3, .int x3)] → wX6_pump_b115 post K5 nn F M x1 x2 x3 → W p l e rmX6_pump s m args below meth c H locs 0 0 (MQ below (x_Qc D N0 (x_Vv (qMv ad XF h post))) args s 0 0 (x_A N0)) (F0 m 115 ls []) := by
  obtain ⟨⟨hx, hb, hml, hown, hts⟩, hr, hlocks, hG, hN⟩ := id C
  intro nn
  induction nn with
  | zero =>
    intro F M x1 x2 x3 H locs ls hR hS hl hw
    exact False.elim hw
  | succ nn ih =>
    intro F M x1 x2 x3 H locs ls hR hS hl hw
    have hK115 := ih
    have hw : tX6_pump_b115 post K5 (wX6_pump_b115 post K5 nn)  F M x1 x2 x3 := hw
    unfold tX6_pump_b115 at hw
    refine lv_iload_n hx hb dX6_pump_115 rfl (lv_at hl 3 rfl) ?_
    refine lv_iload_n hx hb dX6_pump_116 rfl (lv_at hl 2 rfl) ?_
    refine lv_icmp_ge (tgt := 136) hx hb dX6_pump_117 (by decide) (fun c46 => ?_) (fun c46 => ?_)
    · have hw := hw.1 c46
      exact kX6_pump_b136 C hK5 hR hS (lv_sub hl [0, 1] rfl) hw
    · have hw := hw.2 c46
      refine lv_aload_n hx hb dX6_pump_120 rfl (lv_at hl 0 rfl) ?_
      refine lv_aload_n hx hb dX6_pump_121 rfl (lv_at hl 0 rfl) ?_
      refine x_get (ci := 5) (Cn := RX6) (T := TX6) (N := 55) (v := .ref (ad 17)) C (hR.rdX 0 rfl) rfl in_X6 17 (by decide) q1196 (fun _ h9 => h9) rfl dX6_pump_122 ?_
      refine lv_iload_n hx hb dX6_pump_125 rfl (lv_at hl 1 rfl) ?_
      obtain ⟨b47, hw⟩ := hw
      refine x_iald (n := 4) (f := (M 17)) C (hR.rdX 14 rfl) b47 dX6_pump_126 ?_
      refine x_callv0 (x_runV (n := 1) (As := [.int ((M 17) x1.toNatClampNeg)]) C hR hS (kX6_say l D N0 gp ad XF _ ((M 17) x1.toNatClampNeg) F M _ hw) (lw_V q1175 q1177 qs41 q104 q1178) rfl rfl (by decide +kernel) ⟨Nat.le_of_ble_eq_true rfl, Nat.le_of_ble_eq_true rfl⟩ (x_recv C (hR.rdX 0 rfl) rfl) rfl hl.1 rfl (Nat.le_of_ble_eq_true rfl) dX6_pump_127 ⟨Nat.le_refl _, Nat.le_refl _⟩) hS (fun X1 h1 H locs hq hR hS => ?_)
      obtain ⟨F48, M48, e1, e2, hw⟩ := hq
      rw [e1, e2] at hR
      refine lv_iinc (v := x3 + 1) (lv' := [(3, .int (x3 + 1)), (0, .ref (ad 1000)), (1, .int x1), (2, .int x2)]) hx hb dX6_pump_130 hl (k := 3) rfl (x_inc 1 1 (by decide)) (by decide) rfl (fun ls hl => ?_)
      refine lv_goto (tgt := 115) hx hb dX6_pump_133 (by decide) ?_
      exact hK115 _ _ _ _ _ _ _ _ hR hS (lv_sub hl [1, 2, 3, 0] rfl) hw
def wX6_pump_b104 (post : (Nat → Int32) → (Nat → Nat → Int32) → Prop) (K5 : (Nat → Int32) → (Nat → Nat → Int32) → Int32 → Prop)  (F : (Nat → Int32)) (M : (Nat → Nat → Int32)) (x1 : Int32) (x2 : Int32) (s0 : Int32) (s2 : Int32) : Prop :=
  vp_in x1 4 ∧ wX6_head (fun F44 M44 => ∃ n45 : Nat, wX6_pump_b115 post K5 n45 F44 M44 x1 x2 0) s2 0 s0 ((M 12) x1.toNatClampNeg) F M
theorem kX6_pump_b104 {post : (Nat → Int32) → (Nat → Nat → Int32) → Prop} {K5 : (Nat → Int32) → (Nat → Nat → Int32) → Int32 → Prop} (C : x_C p s m args meth c cX6_pump 4 none RX6 D N0 gp) (hK5 : ∀ (F : (Nat → Int32)) (M : (Nat → Nat → Int32)) (x1 : Int32) (H : Heap) (locs : List Loc) (ls : Array Slot), x_R D s N0 (fixM ad F M ++ XF) h H → va_S (x_A N0) s.heap H locs → lv_has ls 4 [(0, .ref (ad 1000)), (1, .int x1)] → K5 F M x1 → W p l e rmX6_pump s m args below meth c H locs 0 0 (MQ below (x_Qc D N0 (x_Vv (qMv ad XF h post))) args s 0 0 (x_A N0)) (F0 m 5 ls [])) {F : (Nat → Int32)} {M : (Nat → Nat → Int32)} {x1 : Int32} {x2 : Int32} {s0 : Int32} {s2 : Int32} {H : Heap} {locs : List Loc} {ls : Array Slot} (hR : x_R D s N0 (fixM ad F M ++ XF) h H) (hS : va_S (x_A N0) s.heap H locs) (hl : lv_has ls 4 [(0, .ref (ad 1000)), (1, .int x1), (2, .int x2)]) (hw : wX6_pump_b104 post K5 F M x1 x2 s0 s2) : W p l e rmX6_pump s m args below meth c H locs 0 0 (MQ below (x_Qc D N0 (x_Vv (qMv ad XF h post))) args s 0 0 (x_A N0)) (F0 m 104 ls [.int s0, .int 0, .int s2, .ref (ad 1000)]) := by
  obtain ⟨⟨hx, hb, hml, hown, hts⟩, hr, hlocks, hG, hN⟩ := id C
  unfold wX6_pump_b104 at hw
  refine lv_aload_n hx hb dX6_pump_104 rfl (lv_at hl 0 rfl) ?_
  refine x_get (ci := 5) (Cn := RX6) (T := TX6) (N := 55) (v := .ref (ad 12)) C (hR.rdX 0 rfl) rfl in_X6 12 (by decide) q1191 (fun _ h9 => h9) rfl dX6_pump_105 ?_
  refine lv_iload_n hx hb dX6_pump_108 rfl (lv_at hl 1 rfl) ?_
  obtain ⟨b43, hw⟩ := hw
  refine x_iald (n := 4) (f := (M 12)) C (hR.rdX 9 rfl) b43 dX6_pump_109 ?_
  refine x_callv0 (x_runV (n := 4) (As := [.int s2, .int 0, .int s0, .int ((M 12) x1.toNatClampNeg)]) C hR hS (kX6_head l D N0 gp ad XF _ s2 0 s0 ((M 12) x1.toNatClampNeg) F M _ hw) (lw_V q1171 q1173 qs40 q104 q1174) rfl rfl (by decide +kernel) ⟨Nat.le_of_ble_eq_true rfl, Nat.le_of_ble_eq_true rfl⟩ (x_recv C (hR.rdX 0 rfl) rfl) rfl hl.1 rfl (Nat.le_of_ble_eq_true rfl) dX6_pump_110 ⟨Nat.le_refl _, Nat.le_refl _⟩) hS (fun X1 h1 H locs hq hR hS => ?_)
  obtain ⟨F44, M44, e1, e2, hw⟩ := hq
  rw [e1, e2] at hR
  refine lv_iconst (v := 0) hx hb dX6_pump_113 (by decide) ?_
  refine lv_istore_n (lv' := [(3, .int 0), (0, .ref (ad 1000)), (1, .int x1), (2, .int x2)]) hx hb dX6_pump_114 rfl hl (by decide) rfl (fun ls hl => ?_)
  obtain ⟨n45, hw⟩ := hw
  exact kX6_pump_b115 C hK5 n45 _ _ _ _ _ _ _ _ hR hS (lv_sub hl [1, 2, 3, 0] rfl) hw
def wX6_pump_b160 (post : (Nat → Int32) → (Nat → Nat → Int32) → Prop)  (F : (Nat → Int32)) (M : (Nat → Nat → Int32)) : Prop :=
  post F M
theorem kX6_pump_b160 {post : (Nat → Int32) → (Nat → Nat → Int32) → Prop} (C : x_C p s m args meth c cX6_pump 4 none RX6 D N0 gp) {F : (Nat → Int32)} {M : (Nat → Nat → Int32)} {H : Heap} {locs : List Loc} {ls : Array Slot} (hR : x_R D s N0 (fixM ad F M ++ XF) h H) (hS : va_S (x_A N0) s.heap H locs) (hl : lv_has ls 4 []) (hw : wX6_pump_b160 post F M) : W p l e rmX6_pump s m args below meth c H locs 0 0 (MQ below (x_Qc D N0 (x_Vv (qMv ad XF h post))) args s 0 0 (x_A N0)) (F0 m 160 ls []) := by
  obtain ⟨⟨hx, hb, hml, hown, hts⟩, hr, hlocks, hG, hN⟩ := id C
  unfold wX6_pump_b160 at hw
  exact x_endv C hR hS ⟨rfl, ⟨_, _, rfl, rfl, hw⟩⟩ (Nat.le_refl _) (Nat.le_refl _) dX6_pump_160
def tX6_pump_b5 (post : (Nat → Int32) → (Nat → Nat → Int32) → Prop) (K5 : (Nat → Int32) → (Nat → Nat → Int32) → Int32 → Prop)  (F : (Nat → Int32)) (M : (Nat → Nat → Int32)) (x1 : Int32) : Prop :=
  (x1 = (-1) → wX6_pump_b160 post F M) ∧ (¬ x1 = (-1) → ((F 50) ≤ 0 → wX6_pump_b160 post F M) ∧ (¬ (F 50) ≤ 0 → vp_in x1 4 ∧ vp_in x1 4 ∧ wX6_less (fun r33 => wX6_less (fun r34 => wX6_less (fun r35 => vp_in x1 4 ∧ vp_in x1 4 ∧ vp_in x1 4 ∧ vp_in x1 4 ∧ vp_in x1 4 ∧ vp_in x1 4 ∧ (((upd (M 16) x1.toNatClampNeg (((M 16) x1.toNatClampNeg) - r35)) x1.toNatClampNeg) = 0 → wX6_pump_b104 post K5 (upd (upd F 50 ((F 50) - r35)) 49 ((M 12) x1.toNatClampNeg)) (va_up (va_up M 16 (upd (M 16) x1.toNatClampNeg (((M 16) x1.toNatClampNeg) - r35))) 13 (upd (M 13) x1.toNatClampNeg (((M 13) x1.toNatClampNeg) - r35))) x1 r35 1 r35) ∧ (¬ ((upd (M 16) x1.toNatClampNeg (((M 16) x1.toNatClampNeg) - r35)) x1.toNatClampNeg) = 0 → wX6_pump_b104 post K5 (upd (upd F 50 ((F 50) - r35)) 49 ((M 12) x1.toNatClampNeg)) (va_up (va_up M 16 (upd (M 16) x1.toNatClampNeg (((M 16) x1.toNatClampNeg) - r35))) 13 (upd (M 13) x1.toNatClampNeg (((M 13) x1.toNatClampNeg) - r35))) x1 r35 0 r35)) r33 r34) (F 50) (F 52)) ((M 16) x1.toNatClampNeg) ((M 13) x1.toNatClampNeg)))
def wX6_pump_b5 (post : (Nat → Int32) → (Nat → Nat → Int32) → Prop)  : Nat → (Nat → Int32) → (Nat → Nat → Int32) → Int32 → Prop
  | 0 => fun _ _ _ => False
  | n + 1 => fun F M x1 => tX6_pump_b5 post (wX6_pump_b5 post n)  F M x1
theorem kX6_pump_b5 {post : (Nat → Int32) → (Nat → Nat → Int32) → Prop} (C : x_C p s m args meth c cX6_pump 4 none RX6 D N0 gp) : ∀ (nn : Nat) (F : (Nat → Int32)) (M : (Nat → Nat → Int32)) (x1 : Int32) (H : Heap) (locs : List Loc) (ls : Array Slot), x_R D s N0 (fixM ad F M ++ XF) h H → va_S (x_A N0) s.heap H locs → lv_has ls 4 [(0, .ref (ad 1000)), (1, .int x1)] → wX6_pump_b5 post nn F M x1 → W p l e rmX6_pump s m args below meth c H locs 0 0 (MQ below (x_Qc D N0 (x_Vv (qMv ad XF h post))) args s 0 0 (x_A N0)) (F0 m 5 ls []) := by
  obtain ⟨⟨hx, hb, hml, hown, hts⟩, hr, hlocks, hG, hN⟩ := id C
  intro nn
  induction nn with
  | zero =>
    intro F M x1 H locs ls hR hS hl hw
    exact False.elim hw
  | succ nn ih =>
    intro F M x1 H locs ls hR hS hl hw
    have hK5 := ih
    have hw : tX6_pump_b5 post (wX6_pump_b5 post nn)  F M x1 := hw
    unfold tX6_pump_b5 at hw
    refine lv_iload_n hx hb dX6_pump_5 rfl (lv_at hl 1 rfl) ?_
    refine lv_iconst (v := -1) hx hb dX6_pump_6 (by decide) ?_
    refine lv_icmp_eq (tgt := 160) hx hb dX6_pump_7 (by decide) (fun c29 => ?_) (fun c29 => ?_)
    · have hw := hw.1 c29
      exact kX6_pump_b160 C hR hS (lv_sub hl [] rfl) hw
    · have hw := hw.2 c29
      refine lv_aload_n hx hb dX6_pump_10 rfl (lv_at hl 0 rfl) ?_
      refine x_get (ci := 5) (Cn := RX6) (T := TX6) (N := 55) (v := .int (F 50)) C (hR.rdX 0 rfl) rfl in_X6 50 (by decide) q1229 (fun _ h9 => h9) rfl dX6_pump_11 ?_
      refine lv_if_le (tgt := 160) hx hb dX6_pump_14 (by decide) (fun c30 => ?_) (fun c30 => ?_)
      · have hw := hw.1 c30
        exact kX6_pump_b160 C hR hS (lv_sub hl [] rfl) hw
      · have hw := hw.2 c30
        refine lv_aload_n hx hb dX6_pump_17 rfl (lv_at hl 0 rfl) ?_
        refine x_get (ci := 5) (Cn := RX6) (T := TX6) (N := 55) (v := .ref (ad 16)) C (hR.rdX 0 rfl) rfl in_X6 16 (by decide) q1195 (fun _ h9 => h9) rfl dX6_pump_18 ?_
        refine lv_iload_n hx hb dX6_pump_21 rfl (lv_at hl 1 rfl) ?_
        obtain ⟨b31, hw⟩ := hw
        refine x_iald (n := 4) (f := (M 16)) C (hR.rdX 13 rfl) b31 dX6_pump_22 ?_
        refine lv_aload_n hx hb dX6_pump_23 rfl (lv_at hl 0 rfl) ?_
        refine x_get (ci := 5) (Cn := RX6) (T := TX6) (N := 55) (v := .ref (ad 13)) C (hR.rdX 0 rfl) rfl in_X6 13 (by decide) q1192 (fun _ h9 => h9) rfl dX6_pump_24 ?_
        refine lv_iload_n hx hb dX6_pump_27 rfl (lv_at hl 1 rfl) ?_
        obtain ⟨b32, hw⟩ := hw
        refine x_iald (n := 4) (f := (M 13)) C (hR.rdX 10 rfl) b32 dX6_pump_28 ?_
        refine x_calli0 (x_runS (n := 2) (As := [.int ((M 16) x1.toNatClampNeg), .int ((M 13) x1.toNatClampNeg)]) C hR hS (kX6_less l D N0 gp _ _ ((M 16) x1.toNatClampNeg) ((M 13) x1.toNatClampNeg) _ hw) (lw_S q1544 q1545 q104 q1546) rfl rfl (by decide +kernel) ⟨Nat.le_of_ble_eq_true rfl, Nat.le_of_ble_eq_true rfl⟩ rfl hl.1 rfl (Nat.le_of_ble_eq_true rfl) dX6_pump_29 ⟨Nat.le_refl _, Nat.le_refl _⟩) hS (fun r33 X1 h1 H locs hq hR hS => ?_)
        obtain ⟨e1, e2, hw⟩ := hq
        rw [e1, e2] at hR
        refine lv_aload_n hx hb dX6_pump_32 rfl (lv_at hl 0 rfl) ?_
        refine x_get (ci := 5) (Cn := RX6) (T := TX6) (N := 55) (v := .int (F 50)) C (hR.rdX 0 rfl) rfl in_X6 50 (by decide) q1229 (fun _ h9 => h9) rfl dX6_pump_33 ?_
        refine lv_aload_n hx hb dX6_pump_36 rfl (lv_at hl 0 rfl) ?_
        refine x_get (ci := 5) (Cn := RX6) (T := TX6) (N := 55) (v := .int (F 52)) C (hR.rdX 0 rfl) rfl in_X6 52 (by decide) q1231 (fun _ h9 => h9) rfl dX6_pump_37 ?_
        refine x_calli0 (x_runS (n := 2) (As := [.int (F 50), .int (F 52)]) C hR hS (kX6_less l D N0 gp _ _ (F 50) (F 52) _ hw) (lw_S q1544 q1545 q104 q1546) rfl rfl (by decide +kernel) ⟨Nat.le_of_ble_eq_true rfl, Nat.le_of_ble_eq_true rfl⟩ rfl hl.1 rfl (Nat.le_of_ble_eq_true rfl) dX6_pump_40 ⟨Nat.le_refl _, Nat.le_refl _⟩) hS (fun r34 X1 h1 H locs hq hR hS => ?_)
        obtain ⟨e1, e2, hw⟩ := hq
        rw [e1, e2] at hR
        refine x_calli0 (x_runS (n := 2) (As := [.int r33, .int r34]) C hR hS (kX6_less l D N0 gp _ _ r33 r34 _ hw) (lw_S q1544 q1545 q104 q1546) rfl rfl (by decide +kernel) ⟨Nat.le_of_ble_eq_true rfl, Nat.le_of_ble_eq_true rfl⟩ rfl hl.1 rfl (Nat.le_of_ble_eq_true rfl) dX6_pump_43 ⟨Nat.le_refl _, Nat.le_refl _⟩) hS (fun r35 X1 h1 H locs hq hR hS => ?_)
        obtain ⟨e1, e2, hw⟩ := hq
        rw [e1, e2] at hR
        refine lv_istore_n (lv' := [(2, .int r35), (0, .ref (ad 1000)), (1, .int x1)]) hx hb dX6_pump_46 rfl hl (by decide) rfl (fun ls hl => ?_)
        refine lv_aload_n hx hb dX6_pump_47 rfl (lv_at hl 1 rfl) ?_
        refine x_get (ci := 5) (Cn := RX6) (T := TX6) (N := 55) (v := .ref (ad 16)) C (hR.rdX 0 rfl) rfl in_X6 16 (by decide) q1195 (fun _ h9 => h9) rfl dX6_pump_48 ?_
        refine lv_iload_n hx hb dX6_pump_51 rfl (lv_at hl 2 rfl) ?_
        refine lv_dup2_11 hx hb dX6_pump_52 rfl rfl ?_
        obtain ⟨b36, hw⟩ := hw
        refine x_iald (n := 4) (f := (M 16)) C (hR.rdX 13 rfl) b36 dX6_pump_53 ?_
        refine lv_iload_n hx hb dX6_pump_54 rfl (lv_at hl 0 rfl) ?_
        refine lv_isub hx hb dX6_pump_55 ?_
        obtain ⟨b37, hw⟩ := hw
        refine x_iastX (n := 4) (f := (M 16)) C hR hS 13 rfl b37 (sM_a16 ..) dX6_pump_56 (fun H locs hR hS => ?_)
        refine lv_aload_n hx hb dX6_pump_57 rfl (lv_at hl 1 rfl) ?_
        refine x_get (ci := 5) (Cn := RX6) (T := TX6) (N := 55) (v := .ref (ad 13)) C (hR.rdX 0 rfl) rfl in_X6 13 (by decide) q1192 (fun _ h9 => h9) rfl dX6_pump_58 ?_
        refine lv_iload_n hx hb dX6_pump_61 rfl (lv_at hl 2 rfl) ?_
        refine lv_dup2_11 hx hb dX6_pump_62 rfl rfl ?_
        obtain ⟨b38, hw⟩ := hw
        refine x_iald (n := 4) (f := (M 13)) C (hR.rdX 10 rfl) b38 dX6_pump_63 ?_
        refine lv_iload_n hx hb dX6_pump_64 rfl (lv_at hl 0 rfl) ?_
        refine lv_isub hx hb dX6_pump_65 ?_
        obtain ⟨b39, hw⟩ := hw
        refine x_iastX (n := 4) (f := (M 13)) C hR hS 10 rfl b39 (sM_a13 ..) dX6_pump_66 (fun H locs hR hS => ?_)
        refine lv_aload_n hx hb dX6_pump_67 rfl (lv_at hl 1 rfl) ?_
        refine lv_dup hx hb dX6_pump_68 rfl ?_
        refine x_get (ci := 5) (Cn := RX6) (T := TX6) (N := 55) (v := .int (F 50)) C (hR.rdX 0 rfl) rfl in_X6 50 (by decide) q1229 (fun _ h9 => h9) rfl dX6_pump_69 ?_
        refine lv_iload_n hx hb dX6_pump_72 rfl (lv_at hl 0 rfl) ?_
        refine lv_isub hx hb dX6_pump_73 ?_
        refine x_putX (ci := 5) (Cn := RX6) (T := TX6) (N := 55) (v := .int ((F 50) - r35)) C hR hS 0 rfl rfl in_X6 tyX6_ok nmX6 50 (by decide) q1229 (fun _ h9 => h9) rfl rfl rfl (Nat.le_of_ble_eq_true rfl) (sM_f50 ..) dX6_pump_74 (fun H locs hR hS => ?_)
        refine lv_aload_n hx hb dX6_pump_77 rfl (lv_at hl 1 rfl) ?_
        refine lv_aload_n hx hb dX6_pump_78 rfl (lv_at hl 1 rfl) ?_
        refine x_get (ci := 5) (Cn := RX6) (T := TX6) (N := 55) (v := .ref (ad 12)) C (hR.rdX 0 rfl) rfl in_X6 12 (by decide) q1191 (fun _ h9 => h9) rfl dX6_pump_79 ?_
        refine lv_iload_n hx hb dX6_pump_82 rfl (lv_at hl 2 rfl) ?_
        obtain ⟨b40, hw⟩ := hw
        refine x_iald (n := 4) (f := (M 12)) C (hR.rdX 9 rfl) b40 dX6_pump_83 ?_
        refine x_putX (ci := 5) (Cn := RX6) (T := TX6) (N := 55) (v := .int ((M 12) x1.toNatClampNeg)) C hR hS 0 rfl rfl in_X6 tyX6_ok nmX6 49 (by decide) q1228 (fun _ h9 => h9) rfl rfl rfl (Nat.le_of_ble_eq_true rfl) (sM_f49 ..) dX6_pump_84 (fun H locs hR hS => ?_)
        refine lv_aload_n hx hb dX6_pump_87 rfl (lv_at hl 1 rfl) ?_
        refine lv_iload_n hx hb dX6_pump_88 rfl (lv_at hl 0 rfl) ?_
        refine lv_iconst (v := 0) hx hb dX6_pump_89 (by decide) ?_
        refine lv_aload_n hx hb dX6_pump_90 rfl (lv_at hl 1 rfl) ?_
        refine x_get (ci := 5) (Cn := RX6) (T := TX6) (N := 55) (v := .ref (ad 16)) C (hR.rdX 0 rfl) rfl in_X6 16 (by decide) q1195 (fun _ h9 => h9) rfl dX6_pump_91 ?_
        refine lv_iload_n hx hb dX6_pump_94 rfl (lv_at hl 2 rfl) ?_
        obtain ⟨b41, hw⟩ := hw
        refine x_iald (n := 4) (f := upd (M 16) x1.toNatClampNeg (((M 16) x1.toNatClampNeg) - r35)) C (hR.rdX 13 rfl) b41 dX6_pump_95 ?_
        refine lv_if_ne (tgt := 103) hx hb dX6_pump_96 (by decide) (fun c42 => ?_) (fun c42 => ?_)
        · have hw := hw.2 c42
          refine lv_iconst (v := 0) hx hb dX6_pump_103 (by decide) ?_
          exact kX6_pump_b104 C hK5 hR hS (lv_sub hl [1, 2, 0] rfl) hw
        · have hw := hw.1 c42
          refine lv_iconst (v := 1) hx hb dX6_pump_99 (by decide) ?_
          refine lv_goto (tgt := 104) hx hb dX6_pump_100 (by decide) ?_
          exact kX6_pump_b104 C hK5 hR hS (lv_sub hl [1, 2, 0] rfl) hw
end
def wX6_pump (post : (Nat → Int32) → (Nat → Nat → Int32) → Prop)  (F : (Nat → Int32)) (M : (Nat → Nat → Int32)) : Prop :=
  wX6_turn (fun r27 => ∃ n28 : Nat, wX6_pump_b5 post n28 F M r27) F M
theorem kX6_pump (l : Launch) (D : va_G) (N0 : Nat) (gp : Nat → Nat) (ad : Nat → Nat) (XF : x_X) (h : x_H)  (F : (Nat → Int32)) (M : (Nat → Nat → Int32)) (post : (Nat → Int32) → (Nat → Nat → Int32) → Prop) (hw : wX6_pump post  F M) : Met l yX6_pump (ws_ yX6_pump cX6_pump 4 none) rmX6_pump (x_Pc D N0 gp (fixM ad F M ++ XF) h [.ref (ad 1000)]) (x_Qc D N0 (x_Vv (qMv ad XF h post))) 0 0 (x_A N0) := by
  refine x_start (lv := [(0, .ref (ad 1000))]) (by decide) rfl (Nat.le_of_ble_eq_true rfl) rfl ?_
  intro p e s m below meth c C hR ls hl
  have hS : va_S (x_A N0) s.heap s.heap [] := va_S.rf
  obtain ⟨⟨hx, hb, hml, hown, hts⟩, hr, hlocks, hG, hN⟩ := id C
  unfold wX6_pump at hw
  refine lv_aload_n hx hb dX6_pump_0 rfl (lv_at hl 0 rfl) ?_
  refine x_calli0 (x_runV (n := 0) (As := []) C hR hS (kX6_turn l D N0 gp ad XF _ F M _ hw) (lw_V q1540 q1542 qs83 q104 q1543) rfl rfl (by decide +kernel) ⟨Nat.le_of_ble_eq_true rfl, Nat.le_of_ble_eq_true rfl⟩ (x_recv C (hR.rdX 0 rfl) rfl) rfl hl.1 rfl (Nat.le_of_ble_eq_true rfl) dX6_pump_1 ⟨Nat.le_refl _, Nat.le_refl _⟩) hS (fun r27 X1 h1 H locs hq hR hS => ?_)
  obtain ⟨e1, e2, hw⟩ := hq
  rw [e1, e2] at hR
  refine lv_istore_n (lv' := [(1, .int r27), (0, .ref (ad 1000))]) hx hb dX6_pump_4 rfl hl (by decide) rfl (fun ls hl => ?_)
  obtain ⟨n28, hw⟩ := hw
  exact kX6_pump_b5 C n28 _ _ _ _ _ _ hR hS (lv_sub hl [1, 0] rfl) hw
/-- PageServerModel.whole()V -/
abbrev rmX6_whole : Room := { frames := 9, cells := 0, slots := 0, locals := 189 }
section
variable {p : Program} {l : Launch} {e : Env} {s : State} {m : MethodId} {args : Array Value} {below : List Frame} {meth : Method} {c : Code} {D : va_G} {N0 : Nat} {gp : Nat → Nat} {ad : Nat → Nat} {XF : x_X} {h : x_H}
def wX6_whole_b61 (post : (Nat → Int32) → (Nat → Nat → Int32) → Prop)  (F : (Nat → Int32)) (M : (Nat → Nat → Int32)) : Prop :=
  post F M
theorem kX6_whole_b61 {post : (Nat → Int32) → (Nat → Nat → Int32) → Prop} (C : x_C p s m args meth c cX6_whole 2 none RX6 D N0 gp) {F : (Nat → Int32)} {M : (Nat → Nat → Int32)} {H : Heap} {locs : List Loc} {ls : Array Slot} (hR : x_R D s N0 (fixM ad F M ++ XF) h H) (hS : va_S (x_A N0) s.heap H locs) (hl : lv_has ls 2 []) (hw : wX6_whole_b61 post F M) : W p l e rmX6_whole s m args below meth c H locs 0 0 (MQ below (x_Qc D N0 (x_Vv (qMv ad XF h post))) args s 0 0 (x_A N0)) (F0 m 61 ls []) := by
  obtain ⟨⟨hx, hb, hml, hown, hts⟩, hr, hlocks, hG, hN⟩ := id C
  unfold wX6_whole_b61 at hw
  exact x_endv C hR hS ⟨rfl, ⟨_, _, rfl, rfl, hw⟩⟩ (Nat.le_refl _) (Nat.le_refl _) dX6_whole_61
def wX6_whole_b50 (post : (Nat → Int32) → (Nat → Nat → Int32) → Prop)  (F : (Nat → Int32)) (M : (Nat → Nat → Int32)) : Prop :=
  ((F 48) = 0 → wX6_pump (fun F20 M20 => wX6_whole_b61 post F20 M20) F M) ∧ (¬ (F 48) = 0 → wX6_whole_b61 post F M)
theorem kX6_whole_b50 {post : (Nat → Int32) → (Nat → Nat → Int32) → Prop} (C : x_C p s m args meth c cX6_whole 2 none RX6 D N0 gp) {F : (Nat → Int32)} {M : (Nat → Nat → Int32)} {H : Heap} {locs : List Loc} {ls : Array Slot} (hR : x_R D s N0 (fixM ad F M ++ XF) h H) (hS : va_S (x_A N0) s.heap H locs) (hl : lv_has ls 2 [(0, .ref (ad 1000))]) (hw : wX6_whole_b50 post F M) : W p l e rmX6_whole s m args below meth c H locs 0 0 (MQ below (x_Qc D N0 (x_Vv (qMv ad XF h post))) args s 0 0 (x_A N0)) (F0 m 50 ls []) := by
  obtain ⟨⟨hx, hb, hml, hown, hts⟩, hr, hlocks, hG, hN⟩ := id C
  unfold wX6_whole_b50 at hw
  refine lv_aload_n hx hb dX6_whole_50 rfl (lv_at hl 0 rfl) ?_
  refine x_get (ci := 5) (Cn := RX6) (T := TX6) (N := 55) (v := .int (F 48)) C (hR.rdX 0 rfl) rfl in_X6 48 (by decide) q1227 (fun _ h9 => h9) rfl dX6_whole_51 ?_
  refine lv_if_ne (tgt := 61) hx hb dX6_whole_54 (by decide) (fun c19 => ?_) (fun c19 => ?_)
  · have hw := hw.2 c19
    exact kX6_whole_b61 C hR hS (lv_sub hl [] rfl) hw
  · have hw := hw.1 c19
    refine lv_aload_n hx hb dX6_whole_57 rfl (lv_at hl 0 rfl) ?_
    refine x_callv0 (x_runV (n := 0) (As := []) C hR hS (kX6_pump l D N0 gp ad XF _ F M _ hw) (lw_V q1536 q1538 qs82 q104 q1539) rfl rfl (by decide +kernel) ⟨Nat.le_of_ble_eq_true rfl, Nat.le_of_ble_eq_true rfl⟩ (x_recv C (hR.rdX 0 rfl) rfl) rfl hl.1 rfl (Nat.le_of_ble_eq_true rfl) dX6_whole_58 ⟨Nat.le_refl _, Nat.le_refl _⟩) hS (fun X1 h1 H locs hq hR hS => ?_)
    obtain ⟨F20, M20, e1, e2, hw⟩ := hq
    rw [e1, e2] at hR
    exact kX6_whole_b61 C hR hS (lv_sub hl [] rfl) hw
end
def wX6_whole (post : (Nat → Int32) → (Nat → Nat → Int32) → Prop)  (F : (Nat → Int32)) (M : (Nat → Nat → Int32)) : Prop :=
  wX6_look (fun r11 F12 M12 => (r11 ≤ 100 → (r11 ≤ 0 → wX6_whole_b50 post F12 M12) ∧ (¬ r11 ≤ 0 → wX6_goAway (fun F15 M15 => wX6_whole_b50 post F15 M15) r11 F12 M12)) ∧ (¬ r11 ≤ 100 → wX6_head (fun F16 M16 => wX6_say (fun F17 M17 => wX6_end (fun F18 M18 => wX6_whole_b50 post F18 M18) (F17 27) F17 M17) (r11 - 100) F16 M16) 1 3 0 (F12 27) F12 M12)) F M
theorem kX6_whole (l : Launch) (D : va_G) (N0 : Nat) (gp : Nat → Nat) (ad : Nat → Nat) (XF : x_X) (h : x_H)  (F : (Nat → Int32)) (M : (Nat → Nat → Int32)) (post : (Nat → Int32) → (Nat → Nat → Int32) → Prop) (hw : wX6_whole post  F M) : Met l yX6_whole (ws_ yX6_whole cX6_whole 2 none) rmX6_whole (x_Pc D N0 gp (fixM ad F M ++ XF) h [.ref (ad 1000)]) (x_Qc D N0 (x_Vv (qMv ad XF h post))) 0 0 (x_A N0) := by
  refine x_start (lv := [(0, .ref (ad 1000))]) (by decide) rfl (Nat.le_of_ble_eq_true rfl) rfl ?_
  intro p e s m below meth c C hR ls hl
  have hS : va_S (x_A N0) s.heap s.heap [] := va_S.rf
  obtain ⟨⟨hx, hb, hml, hown, hts⟩, hr, hlocks, hG, hN⟩ := id C
  unfold wX6_whole at hw
  refine lv_aload_n hx hb dX6_whole_0 rfl (lv_at hl 0 rfl) ?_
  refine x_calli0 (x_runV (n := 0) (As := []) C hR hS (kX6_look l D N0 gp ad XF _ F M _ hw) (lw_V q1403 q1405 qs49 q104 q1406) rfl rfl (by decide +kernel) ⟨Nat.le_of_ble_eq_true rfl, Nat.le_of_ble_eq_true rfl⟩ (x_recv C (hR.rdX 0 rfl) rfl) rfl hl.1 rfl (Nat.le_of_ble_eq_true rfl) dX6_whole_1 ⟨Nat.le_refl _, Nat.le_refl _⟩) hS (fun r11 X1 h1 H locs hq hR hS => ?_)
  obtain ⟨F12, M12, e1, e2, hw⟩ := hq
  rw [e1, e2] at hR
  refine lv_istore_n (lv' := [(1, .int r11), (0, .ref (ad 1000))]) hx hb dX6_whole_4 rfl hl (by decide) rfl (fun ls hl => ?_)
  refine lv_iload_n hx hb dX6_whole_5 rfl (lv_at hl 0 rfl) ?_
  refine lv_bipush (v := 100) hx hb dX6_whole_6 (by decide) ?_
  refine lv_icmp_le (tgt := 41) hx hb dX6_whole_8 (by decide) (fun c13 => ?_) (fun c13 => ?_)
  · have hw := hw.1 c13
    refine lv_iload_n hx hb dX6_whole_41 rfl (lv_at hl 0 rfl) ?_
    refine lv_if_le (tgt := 50) hx hb dX6_whole_42 (by decide) (fun c14 => ?_) (fun c14 => ?_)
    · have hw := hw.1 c14
      exact kX6_whole_b50 C hR hS (lv_sub hl [1] rfl) hw
    · have hw := hw.2 c14
      refine lv_aload_n hx hb dX6_whole_45 rfl (lv_at hl 1 rfl) ?_
      refine lv_iload_n hx hb dX6_whole_46 rfl (lv_at hl 0 rfl) ?_
      refine x_callv0 (x_runV (n := 1) (As := [.int r11]) C hR hS (kX6_goAway l D N0 gp ad XF _ r11 F12 M12 _ hw) (lw_V q1395 q1397 qs47 q104 q1398) rfl rfl (by decide +kernel) ⟨Nat.le_of_ble_eq_true rfl, Nat.le_of_ble_eq_true rfl⟩ (x_recv C (hR.rdX 0 rfl) rfl) rfl hl.1 rfl (Nat.le_of_ble_eq_true rfl) dX6_whole_47 ⟨Nat.le_refl _, Nat.le_refl _⟩) hS (fun X1 h1 H locs hq hR hS => ?_)
      obtain ⟨F15, M15, e1, e2, hw⟩ := hq
      rw [e1, e2] at hR
      exact kX6_whole_b50 C hR hS (lv_sub hl [1] rfl) hw
  · have hw := hw.2 c13
    refine lv_aload_n hx hb dX6_whole_11 rfl (lv_at hl 1 rfl) ?_
    refine lv_iconst (v := 1) hx hb dX6_whole_12 (by decide) ?_
    refine lv_iconst (v := 3) hx hb dX6_whole_13 (by decide) ?_
    refine lv_iconst (v := 0) hx hb dX6_whole_14 (by decide) ?_
    refine lv_aload_n hx hb dX6_whole_15 rfl (lv_at hl 1 rfl) ?_
    refine x_get (ci := 5) (Cn := RX6) (T := TX6) (N := 55) (v := .int (F12 27)) C (hR.rdX 0 rfl) rfl in_X6 27 (by decide) q1206 (fun _ h9 => h9) rfl dX6_whole_16 ?_
    refine x_callv0 (x_runV (n := 4) (As := [.int 1, .int 3, .int 0, .int (F12 27)]) C hR hS (kX6_head l D N0 gp ad XF _ 1 3 0 (F12 27) F12 M12 _ hw) (lw_V q1171 q1173 qs40 q104 q1174) rfl rfl (by decide +kernel) ⟨Nat.le_of_ble_eq_true rfl, Nat.le_of_ble_eq_true rfl⟩ (x_recv C (hR.rdX 0 rfl) rfl) rfl hl.1 rfl (Nat.le_of_ble_eq_true rfl) dX6_whole_19 ⟨Nat.le_refl _, Nat.le_refl _⟩) hS (fun X1 h1 H locs hq hR hS => ?_)
    obtain ⟨F16, M16, e1, e2, hw⟩ := hq
    rw [e1, e2] at hR
    refine lv_aload_n hx hb dX6_whole_22 rfl (lv_at hl 1 rfl) ?_
    refine lv_iload_n hx hb dX6_whole_23 rfl (lv_at hl 0 rfl) ?_
    refine lv_bipush (v := 100) hx hb dX6_whole_24 (by decide) ?_
    refine lv_isub hx hb dX6_whole_26 ?_
    refine x_callv0 (x_runV (n := 1) (As := [.int (r11 - 100)]) C hR hS (kX6_say l D N0 gp ad XF _ (r11 - 100) F16 M16 _ hw) (lw_V q1175 q1177 qs41 q104 q1178) rfl rfl (by decide +kernel) ⟨Nat.le_of_ble_eq_true rfl, Nat.le_of_ble_eq_true rfl⟩ (x_recv C (hR.rdX 0 rfl) rfl) rfl hl.1 rfl (Nat.le_of_ble_eq_true rfl) dX6_whole_27 ⟨Nat.le_refl _, Nat.le_refl _⟩) hS (fun X1 h1 H locs hq hR hS => ?_)
    obtain ⟨F17, M17, e1, e2, hw⟩ := hq
    rw [e1, e2] at hR
    refine lv_aload_n hx hb dX6_whole_30 rfl (lv_at hl 1 rfl) ?_
    refine lv_aload_n hx hb dX6_whole_31 rfl (lv_at hl 1 rfl) ?_
    refine x_get (ci := 5) (Cn := RX6) (T := TX6) (N := 55) (v := .int (F17 27)) C (hR.rdX 0 rfl) rfl in_X6 27 (by decide) q1206 (fun _ h9 => h9) rfl dX6_whole_32 ?_
    refine x_callv0 (x_runV (n := 1) (As := [.int (F17 27)]) C hR hS (kX6_end l D N0 gp ad XF _ (F17 27) F17 M17 _ hw) (lw_V q1520 q1522 qs78 q104 q1523) rfl rfl (by decide +kernel) ⟨Nat.le_of_ble_eq_true rfl, Nat.le_of_ble_eq_true rfl⟩ (x_recv C (hR.rdX 0 rfl) rfl) rfl hl.1 rfl (Nat.le_of_ble_eq_true rfl) dX6_whole_35 ⟨Nat.le_refl _, Nat.le_refl _⟩) hS (fun X1 h1 H locs hq hR hS => ?_)
    obtain ⟨F18, M18, e1, e2, hw⟩ := hq
    rw [e1, e2] at hR
    refine lv_goto (tgt := 50) hx hb dX6_whole_38 (by decide) ?_
    exact kX6_whole_b50 C hR hS (lv_sub hl [1] rfl) hw
/-- PageServerModel.take1(I)V -/
abbrev rmX6_take1 : Room := { frames := 10, cells := 0, slots := 0, locals := 210 }
section
variable {p : Program} {l : Launch} {e : Env} {s : State} {m : MethodId} {args : Array Value} {below : List Frame} {meth : Method} {c : Code} {D : va_G} {N0 : Nat} {gp : Nat → Nat} {ad : Nat → Nat} {XF : x_X} {h : x_H}
def wX6_take1_b41 (post : (Nat → Int32) → (Nat → Nat → Int32) → Prop) (p1 : Int32) (F : (Nat → Int32)) (M : (Nat → Nat → Int32)) : Prop :=
  post F M
theorem kX6_take1_b41 {post : (Nat → Int32) → (Nat → Nat → Int32) → Prop} {p1 : Int32} (C : x_C p s m args meth c cX6_take1 3 none RX6 D N0 gp) {F : (Nat → Int32)} {M : (Nat → Nat → Int32)} {H : Heap} {locs : List Loc} {ls : Array Slot} (hR : x_R D s N0 (fixM ad F M ++ XF) h H) (hS : va_S (x_A N0) s.heap H locs) (hl : lv_has ls 3 []) (hw : wX6_take1_b41 post p1 F M) : W p l e rmX6_take1 s m args below meth c H locs 0 0 (MQ below (x_Qc D N0 (x_Vv (qMv ad XF h post))) args s 0 0 (x_A N0)) (F0 m 41 ls []) := by
  obtain ⟨⟨hx, hb, hml, hown, hts⟩, hr, hlocks, hG, hN⟩ := id C
  unfold wX6_take1_b41 at hw
  exact x_endv C hR hS ⟨rfl, ⟨_, _, rfl, rfl, hw⟩⟩ (Nat.le_refl _) (Nat.le_refl _) dX6_take1_41
def wX6_take1_b21 (post : (Nat → Int32) → (Nat → Nat → Int32) → Prop) (p1 : Int32) (F : (Nat → Int32)) (M : (Nat → Nat → Int32)) (s0 : Int32) : Prop :=
  (s0 = 0 → wX6_goAway (fun F22 M22 => wX6_take1_b41 post p1 F22 M22) 1 (upd F 22 ((F 22) + 1)) M) ∧ (¬ s0 = 0 → wX6_take1_b41 post p1 (upd F 22 ((F 22) + 1)) M)
theorem kX6_take1_b21 {post : (Nat → Int32) → (Nat → Nat → Int32) → Prop} {p1 : Int32} (C : x_C p s m args meth c cX6_take1 3 none RX6 D N0 gp) {F : (Nat → Int32)} {M : (Nat → Nat → Int32)} {s0 : Int32} {H : Heap} {locs : List Loc} {ls : Array Slot} (hR : x_R D s N0 (fixM ad F M ++ XF) h H) (hS : va_S (x_A N0) s.heap H locs) (hl : lv_has ls 3 [(0, .ref (ad 1000))]) (hw : wX6_take1_b21 post p1 F M s0) : W p l e rmX6_take1 s m args below meth c H locs 0 0 (MQ below (x_Qc D N0 (x_Vv (qMv ad XF h post))) args s 0 0 (x_A N0)) (F0 m 21 ls [.int s0]) := by
  obtain ⟨⟨hx, hb, hml, hown, hts⟩, hr, hlocks, hG, hN⟩ := id C
  unfold wX6_take1_b21 at hw
  refine lv_istore_n (lv' := [(2, .int s0), (0, .ref (ad 1000))]) hx hb dX6_take1_21 rfl hl (by decide) rfl (fun ls hl => ?_)
  refine lv_aload_n hx hb dX6_take1_22 rfl (lv_at hl 1 rfl) ?_
  refine lv_dup hx hb dX6_take1_23 rfl ?_
  refine x_get (ci := 5) (Cn := RX6) (T := TX6) (N := 55) (v := .int (F 22)) C (hR.rdX 0 rfl) rfl in_X6 22 (by decide) q1201 (fun _ h9 => h9) rfl dX6_take1_24 ?_
  refine lv_iconst (v := 1) hx hb dX6_take1_27 (by decide) ?_
  refine lv_iadd hx hb dX6_take1_28 ?_
  refine x_putX (ci := 5) (Cn := RX6) (T := TX6) (N := 55) (v := .int ((F 22) + 1)) C hR hS 0 rfl rfl in_X6 tyX6_ok nmX6 22 (by decide) q1201 (fun _ h9 => h9) rfl rfl rfl (Nat.le_of_ble_eq_true rfl) (sM_f22 ..) dX6_take1_29 (fun H locs hR hS => ?_)
  refine lv_iload_n hx hb dX6_take1_32 rfl (lv_at hl 0 rfl) ?_
  refine lv_if_ne (tgt := 41) hx hb dX6_take1_33 (by decide) (fun c21 => ?_) (fun c21 => ?_)
  · have hw := hw.2 c21
    exact kX6_take1_b41 C hR hS (lv_sub hl [] rfl) hw
  · have hw := hw.1 c21
    refine lv_aload_n hx hb dX6_take1_36 rfl (lv_at hl 1 rfl) ?_
    refine lv_iconst (v := 1) hx hb dX6_take1_37 (by decide) ?_
    refine x_callv0 (x_runV (n := 1) (As := [.int 1]) C hR hS (kX6_goAway l D N0 gp ad XF _ 1 (upd F 22 ((F 22) + 1)) M _ hw) (lw_V q1395 q1397 qs47 q104 q1398) rfl rfl (by decide +kernel) ⟨Nat.le_of_ble_eq_true rfl, Nat.le_of_ble_eq_true rfl⟩ (x_recv C (hR.rdX 0 rfl) rfl) rfl hl.1 rfl (Nat.le_of_ble_eq_true rfl) dX6_take1_38 ⟨Nat.le_refl _, Nat.le_refl _⟩) hS (fun X1 h1 H locs hq hR hS => ?_)
    obtain ⟨F22, M22, e1, e2, hw⟩ := hq
    rw [e1, e2] at hR
    exact kX6_take1_b41 C hR hS (lv_sub hl [] rfl) hw
def wX6_take1_b152 (post : (Nat → Int32) → (Nat → Nat → Int32) → Prop) (p1 : Int32) (F : (Nat → Int32)) (M : (Nat → Nat → Int32)) : Prop :=
  post F M
theorem kX6_take1_b152 {post : (Nat → Int32) → (Nat → Nat → Int32) → Prop} {p1 : Int32} (C : x_C p s m args meth c cX6_take1 3 none RX6 D N0 gp) {F : (Nat → Int32)} {M : (Nat → Nat → Int32)} {H : Heap} {locs : List Loc} {ls : Array Slot} (hR : x_R D s N0 (fixM ad F M ++ XF) h H) (hS : va_S (x_A N0) s.heap H locs) (hl : lv_has ls 3 []) (hw : wX6_take1_b152 post p1 F M) : W p l e rmX6_take1 s m args below meth c H locs 0 0 (MQ below (x_Qc D N0 (x_Vv (qMv ad XF h post))) args s 0 0 (x_A N0)) (F0 m 152 ls []) := by
  obtain ⟨⟨hx, hb, hml, hown, hts⟩, hr, hlocks, hG, hN⟩ := id C
  unfold wX6_take1_b152 at hw
  exact x_endv C hR hS ⟨rfl, ⟨_, _, rfl, rfl, hw⟩⟩ (Nat.le_refl _) (Nat.le_refl _) dX6_take1_152
end
def wX6_take1 (post : (Nat → Int32) → (Nat → Nat → Int32) → Prop) (p1 : Int32) (F : (Nat → Int32)) (M : (Nat → Nat → Int32)) : Prop :=
  ((4 : Int32) ≤ (F 22) → vp_in (F 23) 204 ∧ ((4 : Int32) ≤ ((F 23) + 1) → (((upd (M 24) (F 23).toNatClampNeg p1) ((0 : Int32).toNatClampNeg)) ≤ 200 → (((F 23) + 1) = ((4 : Int32) + ((upd (M 24) (F 23).toNatClampNeg p1) ((0 : Int32).toNatClampNeg))) → wX6_whole (fun F17 M17 => wX6_take1_b152 post p1 F17 M17) (upd (upd (upd (upd (upd (upd F 23 ((F 23) + 1)) 28 ((upd (M 24) (F 23).toNatClampNeg p1) ((0 : Int32).toNatClampNeg))) 25 ((upd (M 24) (F 23).toNatClampNeg p1) ((1 : Int32).toNatClampNeg))) 26 ((upd (M 24) (F 23).toNatClampNeg p1) ((2 : Int32).toNatClampNeg))) 27 ((upd (M 24) (F 23).toNatClampNeg p1) ((3 : Int32).toNatClampNeg))) 23 0) (va_up M 24 (upd (M 24) (F 23).toNatClampNeg p1))) ∧ (¬ ((F 23) + 1) = ((4 : Int32) + ((upd (M 24) (F 23).toNatClampNeg p1) ((0 : Int32).toNatClampNeg))) → wX6_take1_b152 post p1 (upd (upd F 23 ((F 23) + 1)) 28 ((upd (M 24) (F 23).toNatClampNeg p1) ((0 : Int32).toNatClampNeg))) (va_up M 24 (upd (M 24) (F 23).toNatClampNeg p1)))) ∧ (¬ ((upd (M 24) (F 23).toNatClampNeg p1) ((0 : Int32).toNatClampNeg)) ≤ 200 → wX6_goAway (fun F18 M18 => wX6_take1_b152 post p1 F18 M18) 6 (upd (upd F 23 ((F 23) + 1)) 28 ((upd (M 24) (F 23).toNatClampNeg p1) ((0 : Int32).toNatClampNeg))) (va_up M 24 (upd (M 24) (F 23).toNatClampNeg p1)))) ∧ (¬ (4 : Int32) ≤ ((F 23) + 1) → post (upd F 23 ((F 23) + 1)) (va_up M 24 (upd (M 24) (F 23).toNatClampNeg p1)))) ∧ (¬ (4 : Int32) ≤ (F 22) → wX6_prefaceByte (fun r19 => (p1 = r19 → wX6_take1_b21 post p1 F M 1) ∧ (¬ p1 = r19 → wX6_take1_b21 post p1 F M 0)) F M)
theorem kX6_take1 (l : Launch) (D : va_G) (N0 : Nat) (gp : Nat → Nat) (ad : Nat → Nat) (XF : x_X) (h : x_H) (p1 : Int32) (F : (Nat → Int32)) (M : (Nat → Nat → Int32)) (post : (Nat → Int32) → (Nat → Nat → Int32) → Prop) (hw : wX6_take1 post p1 F M) : Met l yX6_take1 (ws_ yX6_take1 cX6_take1 3 none) rmX6_take1 (x_Pc D N0 gp (fixM ad F M ++ XF) h [.ref (ad 1000), .int p1]) (x_Qc D N0 (x_Vv (qMv ad XF h post))) 0 0 (x_A N0) := by
  refine x_start (lv := [(0, .ref (ad 1000)), (1, .int p1)]) (by decide) rfl (Nat.le_of_ble_eq_true rfl) rfl ?_
  intro p e s m below meth c C hR ls hl
  have hS : va_S (x_A N0) s.heap s.heap [] := va_S.rf
  obtain ⟨⟨hx, hb, hml, hown, hts⟩, hr, hlocks, hG, hN⟩ := id C
  unfold wX6_take1 at hw
  refine lv_aload_n hx hb dX6_take1_0 rfl (lv_at hl 0 rfl) ?_
  refine x_get (ci := 5) (Cn := RX6) (T := TX6) (N := 55) (v := .int (F 22)) C (hR.rdX 0 rfl) rfl in_X6 22 (by decide) q1201 (fun _ h9 => h9) rfl dX6_take1_1 ?_
  refine lv_iconst (v := 4) hx hb dX6_take1_4 (by decide) ?_
  refine lv_icmp_ge (tgt := 42) hx hb dX6_take1_5 (by decide) (fun c12 => ?_) (fun c12 => ?_)
  · have hw := hw.1 c12
    refine lv_aload_n hx hb dX6_take1_42 rfl (lv_at hl 0 rfl) ?_
    refine x_get (ci := 5) (Cn := RX6) (T := TX6) (N := 55) (v := .ref (ad 24)) C (hR.rdX 0 rfl) rfl in_X6 24 (by decide) q1203 (fun _ h9 => h9) rfl dX6_take1_43 ?_
    refine lv_aload_n hx hb dX6_take1_46 rfl (lv_at hl 0 rfl) ?_
    refine x_get (ci := 5) (Cn := RX6) (T := TX6) (N := 55) (v := .int (F 23)) C (hR.rdX 0 rfl) rfl in_X6 23 (by decide) q1202 (fun _ h9 => h9) rfl dX6_take1_47 ?_
    refine lv_iload_n hx hb dX6_take1_50 rfl (lv_at hl 1 rfl) ?_
    obtain ⟨b13, hw⟩ := hw
    refine x_iastX (n := 204) (f := (M 24)) C hR hS 19 rfl b13 (sM_a24 ..) dX6_take1_51 (fun H locs hR hS => ?_)
    refine lv_aload_n hx hb dX6_take1_52 rfl (lv_at hl 0 rfl) ?_
    refine lv_dup hx hb dX6_take1_53 rfl ?_
    refine x_get (ci := 5) (Cn := RX6) (T := TX6) (N := 55) (v := .int (F 23)) C (hR.rdX 0 rfl) rfl in_X6 23 (by decide) q1202 (fun _ h9 => h9) rfl dX6_take1_54 ?_
    refine lv_iconst (v := 1) hx hb dX6_take1_57 (by decide) ?_
    refine lv_iadd hx hb dX6_take1_58 ?_
    refine x_putX (ci := 5) (Cn := RX6) (T := TX6) (N := 55) (v := .int ((F 23) + 1)) C hR hS 0 rfl rfl in_X6 tyX6_ok nmX6 23 (by decide) q1202 (fun _ h9 => h9) rfl rfl rfl (Nat.le_of_ble_eq_true rfl) (sM_f23 ..) dX6_take1_59 (fun H locs hR hS => ?_)
    refine lv_aload_n hx hb dX6_take1_62 rfl (lv_at hl 0 rfl) ?_
    refine x_get (ci := 5) (Cn := RX6) (T := TX6) (N := 55) (v := .int ((F 23) + 1)) C (hR.rdX 0 rfl) rfl in_X6 23 (by decide) q1202 (fun _ h9 => h9) rfl dX6_take1_63 ?_
    refine lv_iconst (v := 4) hx hb dX6_take1_66 (by decide) ?_
    refine lv_icmp_ge (tgt := 71) hx hb dX6_take1_67 (by decide) (fun c14 => ?_) (fun c14 => ?_)
    · have hw := hw.1 c14
      refine lv_aload_n hx hb dX6_take1_71 rfl (lv_at hl 0 rfl) ?_
      refine lv_aload_n hx hb dX6_take1_72 rfl (lv_at hl 0 rfl) ?_
      refine x_get (ci := 5) (Cn := RX6) (T := TX6) (N := 55) (v := .ref (ad 24)) C (hR.rdX 0 rfl) rfl in_X6 24 (by decide) q1203 (fun _ h9 => h9) rfl dX6_take1_73 ?_
      refine lv_iconst (v := 0) hx hb dX6_take1_76 (by decide) ?_
      refine x_iald (n := 204) (f := upd (M 24) (F 23).toNatClampNeg p1) C (hR.rdX 19 rfl) (by unfold vp_in; decide) dX6_take1_77 ?_
      refine x_putX (ci := 5) (Cn := RX6) (T := TX6) (N := 55) (v := .int ((upd (M 24) (F 23).toNatClampNeg p1) ((0 : Int32).toNatClampNeg))) C hR hS 0 rfl rfl in_X6 tyX6_ok nmX6 28 (by decide) q1207 (fun _ h9 => h9) rfl rfl rfl (Nat.le_of_ble_eq_true rfl) (sM_f28 ..) dX6_take1_78 (fun H locs hR hS => ?_)
      refine lv_aload_n hx hb dX6_take1_81 rfl (lv_at hl 0 rfl) ?_
      refine x_get (ci := 5) (Cn := RX6) (T := TX6) (N := 55) (v := .int ((upd (M 24) (F 23).toNatClampNeg p1) ((0 : Int32).toNatClampNeg))) C (hR.rdX 0 rfl) rfl in_X6 28 (by decide) q1207 (fun _ h9 => h9) rfl dX6_take1_82 ?_
      refine lv_sipush (v := 200) hx hb dX6_take1_85 (by decide) ?_
      refine lv_icmp_le (tgt := 100) hx hb dX6_take1_88 (by decide) (fun c15 => ?_) (fun c15 => ?_)
      · have hw := hw.1 c15
        refine lv_aload_n hx hb dX6_take1_100 rfl (lv_at hl 0 rfl) ?_
        refine x_get (ci := 5) (Cn := RX6) (T := TX6) (N := 55) (v := .int ((F 23) + 1)) C (hR.rdX 0 rfl) rfl in_X6 23 (by decide) q1202 (fun _ h9 => h9) rfl dX6_take1_101 ?_
        refine lv_iconst (v := 4) hx hb dX6_take1_104 (by decide) ?_
        refine lv_aload_n hx hb dX6_take1_105 rfl (lv_at hl 0 rfl) ?_
        refine x_get (ci := 5) (Cn := RX6) (T := TX6) (N := 55) (v := .int ((upd (M 24) (F 23).toNatClampNeg p1) ((0 : Int32).toNatClampNeg))) C (hR.rdX 0 rfl) rfl in_X6 28 (by decide) q1207 (fun _ h9 => h9) rfl dX6_take1_106 ?_
        refine lv_iadd hx hb dX6_take1_109 ?_
        refine lv_icmp_ne (tgt := 152) hx hb dX6_take1_110 (by decide) (fun c16 => ?_) (fun c16 => ?_)
        · have hw := hw.2 c16
          exact kX6_take1_b152 C hR hS (lv_sub hl [] rfl) hw
        · have hw := hw.1 c16
          refine lv_aload_n hx hb dX6_take1_113 rfl (lv_at hl 0 rfl) ?_
          refine lv_aload_n hx hb dX6_take1_114 rfl (lv_at hl 0 rfl) ?_
          refine x_get (ci := 5) (Cn := RX6) (T := TX6) (N := 55) (v := .ref (ad 24)) C (hR.rdX 0 rfl) rfl in_X6 24 (by decide) q1203 (fun _ h9 => h9) rfl dX6_take1_115 ?_
          refine lv_iconst (v := 1) hx hb dX6_take1_118 (by decide) ?_
          refine x_iald (n := 204) (f := upd (M 24) (F 23).toNatClampNeg p1) C (hR.rdX 19 rfl) (by unfold vp_in; decide) dX6_take1_119 ?_
          refine x_putX (ci := 5) (Cn := RX6) (T := TX6) (N := 55) (v := .int ((upd (M 24) (F 23).toNatClampNeg p1) ((1 : Int32).toNatClampNeg))) C hR hS 0 rfl rfl in_X6 tyX6_ok nmX6 25 (by decide) q1204 (fun _ h9 => h9) rfl rfl rfl (Nat.le_of_ble_eq_true rfl) (sM_f25 ..) dX6_take1_120 (fun H locs hR hS => ?_)
          refine lv_aload_n hx hb dX6_take1_123 rfl (lv_at hl 0 rfl) ?_
          refine lv_aload_n hx hb dX6_take1_124 rfl (lv_at hl 0 rfl) ?_
          refine x_get (ci := 5) (Cn := RX6) (T := TX6) (N := 55) (v := .ref (ad 24)) C (hR.rdX 0 rfl) rfl in_X6 24 (by decide) q1203 (fun _ h9 => h9) rfl dX6_take1_125 ?_
          refine lv_iconst (v := 2) hx hb dX6_take1_128 (by decide) ?_
          refine x_iald (n := 204) (f := upd (M 24) (F 23).toNatClampNeg p1) C (hR.rdX 19 rfl) (by unfold vp_in; decide) dX6_take1_129 ?_
          refine x_putX (ci := 5) (Cn := RX6) (T := TX6) (N := 55) (v := .int ((upd (M 24) (F 23).toNatClampNeg p1) ((2 : Int32).toNatClampNeg))) C hR hS 0 rfl rfl in_X6 tyX6_ok nmX6 26 (by decide) q1205 (fun _ h9 => h9) rfl rfl rfl (Nat.le_of_ble_eq_true rfl) (sM_f26 ..) dX6_take1_130 (fun H locs hR hS => ?_)
          refine lv_aload_n hx hb dX6_take1_133 rfl (lv_at hl 0 rfl) ?_
          refine lv_aload_n hx hb dX6_take1_134 rfl (lv_at hl 0 rfl) ?_
          refine x_get (ci := 5) (Cn := RX6) (T := TX6) (N := 55) (v := .ref (ad 24)) C (hR.rdX 0 rfl) rfl in_X6 24 (by decide) q1203 (fun _ h9 => h9) rfl dX6_take1_135 ?_
          refine lv_iconst (v := 3) hx hb dX6_take1_138 (by decide) ?_
          refine x_iald (n := 204) (f := upd (M 24) (F 23).toNatClampNeg p1) C (hR.rdX 19 rfl) (by unfold vp_in; decide) dX6_take1_139 ?_
          refine x_putX (ci := 5) (Cn := RX6) (T := TX6) (N := 55) (v := .int ((upd (M 24) (F 23).toNatClampNeg p1) ((3 : Int32).toNatClampNeg))) C hR hS 0 rfl rfl in_X6 tyX6_ok nmX6 27 (by decide) q1206 (fun _ h9 => h9) rfl rfl rfl (Nat.le_of_ble_eq_true rfl) (sM_f27 ..) dX6_take1_140 (fun H locs hR hS => ?_)
          refine lv_aload_n hx hb dX6_take1_143 rfl (lv_at hl 0 rfl) ?_
          refine lv_iconst (v := 0) hx hb dX6_take1_144 (by decide) ?_
          refine x_putX (ci := 5) (Cn := RX6) (T := TX6) (N := 55) (v := .int 0) C hR hS 0 rfl rfl in_X6 tyX6_ok nmX6 23 (by decide) q1202 (fun _ h9 => h9) rfl rfl rfl (Nat.le_of_ble_eq_true rfl) (sM_f23 ..) dX6_take1_145 (fun H locs hR hS => ?_)
          refine lv_aload_n hx hb dX6_take1_148 rfl (lv_at hl 0 rfl) ?_
          refine x_callv0 (x_runV (n := 0) (As := []) C hR hS (kX6_whole l D N0 gp ad XF _ (upd (upd (upd (upd (upd (upd F 23 ((F 23) + 1)) 28 ((upd (M 24) (F 23).toNatClampNeg p1) ((0 : Int32).toNatClampNeg))) 25 ((upd (M 24) (F 23).toNatClampNeg p1) ((1 : Int32).toNatClampNeg))) 26 ((upd (M 24) (F 23).toNatClampNeg p1) ((2 : Int32).toNatClampNeg))) 27 ((upd (M 24) (F 23).toNatClampNeg p1) ((3 : Int32).toNatClampNeg))) 23 0) (va_up M 24 (upd (M 24) (F 23).toNatClampNeg p1)) _ hw) (lw_V q1399 q1401 qs48 q104 q1402) rfl rfl (by decide +kernel) ⟨Nat.le_of_ble_eq_true rfl, Nat.le_of_ble_eq_true rfl⟩ (x_recv C (hR.rdX 0 rfl) rfl) rfl hl.1 rfl (Nat.le_of_ble_eq_true rfl) dX6_take1_149 ⟨Nat.le_refl _, Nat.le_refl _⟩) hS (fun X1 h1 H locs hq hR hS => ?_)
          obtain ⟨F17, M17, e1, e2, hw⟩ := hq
          rw [e1, e2] at hR
          exact kX6_take1_b152 C hR hS (lv_sub hl [] rfl) hw
      · have hw := hw.2 c15
        refine lv_aload_n hx hb dX6_take1_91 rfl (lv_at hl 0 rfl) ?_
        refine lv_bipush (v := 6) hx hb dX6_take1_92 (by decide) ?_
        refine x_callv0 (x_runV (n := 1) (As := [.int 6]) C hR hS (kX6_goAway l D N0 gp ad XF _ 6 (upd (upd F 23 ((F 23) + 1)) 28 ((upd (M 24) (F 23).toNatClampNeg p1) ((0 : Int32).toNatClampNeg))) (va_up M 24 (upd (M 24) (F 23).toNatClampNeg p1)) _ hw) (lw_V q1395 q1397 qs47 q104 q1398) rfl rfl (by decide +kernel) ⟨Nat.le_of_ble_eq_true rfl, Nat.le_of_ble_eq_true rfl⟩ (x_recv C (hR.rdX 0 rfl) rfl) rfl hl.1 rfl (Nat.le_of_ble_eq_true rfl) dX6_take1_94 ⟨Nat.le_refl _, Nat.le_refl _⟩) hS (fun X1 h1 H locs hq hR hS => ?_)
        obtain ⟨F18, M18, e1, e2, hw⟩ := hq
        rw [e1, e2] at hR
        refine lv_goto (tgt := 152) hx hb dX6_take1_97 (by decide) ?_
        exact kX6_take1_b152 C hR hS (lv_sub hl [] rfl) hw
    · have hw := hw.2 c14
      exact x_endv C hR hS ⟨rfl, ⟨_, _, rfl, rfl, hw⟩⟩ (Nat.le_refl _) (Nat.le_refl _) dX6_take1_70
  · have hw := hw.2 c12
    refine lv_iload_n hx hb dX6_take1_8 rfl (lv_at hl 1 rfl) ?_
    refine lv_aload_n hx hb dX6_take1_9 rfl (lv_at hl 0 rfl) ?_
    refine x_calli0 (x_runV (n := 0) (As := []) C hR hS (kX6_prefaceByte l D N0 gp ad XF _ F M _ hw) (lw_V q1391 q1393 qs46 q104 q1394) rfl rfl (by decide +kernel) ⟨Nat.le_of_ble_eq_true rfl, Nat.le_of_ble_eq_true rfl⟩ (x_recv C (hR.rdX 0 rfl) rfl) rfl hl.1 rfl (Nat.le_of_ble_eq_true rfl) dX6_take1_10 ⟨Nat.le_refl _, Nat.le_refl _⟩) hS (fun r19 X1 h1 H locs hq hR hS => ?_)
    obtain ⟨e1, e2, hw⟩ := hq
    rw [e1, e2] at hR
    refine lv_icmp_ne (tgt := 20) hx hb dX6_take1_13 (by decide) (fun c20 => ?_) (fun c20 => ?_)
    · have hw := hw.2 c20
      refine lv_iconst (v := 0) hx hb dX6_take1_20 (by decide) ?_
      exact kX6_take1_b21 C hR hS (lv_sub hl [0] rfl) hw
    · have hw := hw.1 c20
      refine lv_iconst (v := 1) hx hb dX6_take1_16 (by decide) ?_
      refine lv_goto (tgt := 21) hx hb dX6_take1_17 (by decide) ?_
      exact kX6_take1_b21 C hR hS (lv_sub hl [0] rfl) hw
/-- PageServerModel.feed(II)Z -/
abbrev rmX6_feed : Room := { frames := 11, cells := 0, slots := 0, locals := 232 }
section
variable {p : Program} {l : Launch} {e : Env} {s : State} {m : MethodId} {args : Array Value} {below : List Frame} {meth : Method} {c : Code} {D : va_G} {N0 : Nat} {gp : Nat → Nat} {ad : Nat → Nat} {XF : x_X} {h : x_H}
def wX6_feed_b24 (post : Int32 → (Nat → Int32) → (Nat → Nat → Int32) → Prop) (p1 : Int32) (p2 : Int32) (F : (Nat → Int32)) (M : (Nat → Nat → Int32)) : Prop :=
  post 0 F M
theorem kX6_feed_b24 {post : Int32 → (Nat → Int32) → (Nat → Nat → Int32) → Prop} {p1 : Int32} {p2 : Int32} (C : x_C p s m args meth c cX6_feed 4 (some .boolean) RX6 D N0 gp) {F : (Nat → Int32)} {M : (Nat → Nat → Int32)} {H : Heap} {locs : List Loc} {ls : Array Slot} (hR : x_R D s N0 (fixM ad F M ++ XF) h H) (hS : va_S (x_A N0) s.heap H locs) (hl : lv_has ls 4 []) (hw : wX6_feed_b24 post p1 p2 F M) : W p l e rmX6_feed s m args below meth c H locs 0 0 (MQ below (x_Qc D N0 (x_Vi (qMi ad XF h post))) args s 0 0 (x_A N0)) (F0 m 24 ls []) := by
  obtain ⟨⟨hx, hb, hml, hown, hts⟩, hr, hlocks, hG, hN⟩ := id C
  unfold wX6_feed_b24 at hw
  refine lv_iconst (v := 0) hx hb dX6_feed_24 (by decide) ?_
  exact x_endz C hR hS rfl ⟨_, rfl, ⟨_, _, rfl, rfl, hw⟩⟩ (Nat.le_refl _) (Nat.le_refl _) dX6_feed_25
def wX6_feed_b50 (post : Int32 → (Nat → Int32) → (Nat → Nat → Int32) → Prop) (K30 : (Nat → Int32) → (Nat → Nat → Int32) → Int32 → Prop) (p1 : Int32) (p2 : Int32) (F : (Nat → Int32)) (M : (Nat → Nat → Int32)) (x3 : Int32) : Prop :=
  K30 F M (x3 + (-1))
theorem kX6_feed_b50 {post : Int32 → (Nat → Int32) → (Nat → Nat → Int32) → Prop} {K30 : (Nat → Int32) → (Nat → Nat → Int32) → Int32 → Prop} {p1 : Int32} {p2 : Int32} (C : x_C p s m args meth c cX6_feed 4 (some .boolean) RX6 D N0 gp) (hK30 : ∀ (F : (Nat → Int32)) (M : (Nat → Nat → Int32)) (x3 : Int32) (H : Heap) (locs : List Loc) (ls : Array Slot), x_R D s N0 (fixM ad F M ++ XF) h H → va_S (x_A N0) s.heap H locs → lv_has ls 4 [(0, .ref (ad 1000)), (1, .int p1), (3, .int x3)] → K30 F M x3 → W p l e rmX6_feed s m args below meth c H locs 0 0 (MQ below (x_Qc D N0 (x_Vi (qMi ad XF h post))) args s 0 0 (x_A N0)) (F0 m 30 ls [])) {F : (Nat → Int32)} {M : (Nat → Nat → Int32)} {x3 : Int32} {H : Heap} {locs : List Loc} {ls : Array Slot} (hR : x_R D s N0 (fixM ad F M ++ XF) h H) (hS : va_S (x_A N0) s.heap H locs) (hl : lv_has ls 4 [(0, .ref (ad 1000)), (1, .int p1), (3, .int x3)]) (hw : wX6_feed_b50 post K30 p1 p2 F M x3) : W p l e rmX6_feed s m args below meth c H locs 0 0 (MQ below (x_Qc D N0 (x_Vi (qMi ad XF h post))) args s 0 0 (x_A N0)) (F0 m 50 ls []) := by
  obtain ⟨⟨hx, hb, hml, hown, hts⟩, hr, hlocks, hG, hN⟩ := id C
  unfold wX6_feed_b50 at hw
  refine lv_iinc (v := x3 + (-1)) (lv' := [(3, .int (x3 + (-1))), (0, .ref (ad 1000)), (1, .int p1)]) hx hb dX6_feed_50 hl (k := 2) rfl (x_inc (-1) (-1) (by decide)) (by decide) rfl (fun ls hl => ?_)
  refine lv_goto (tgt := 30) hx hb dX6_feed_53 (by decide) ?_
  exact hK30 _ _ _ _ _ _ hR hS (lv_sub hl [1, 2, 0] rfl) hw
def wX6_feed_b56 (post : Int32 → (Nat → Int32) → (Nat → Nat → Int32) → Prop) (p1 : Int32) (p2 : Int32) (F : (Nat → Int32)) (M : (Nat → Nat → Int32)) : Prop :=
  post 1 F M
theorem kX6_feed_b56 {post : Int32 → (Nat → Int32) → (Nat → Nat → Int32) → Prop} {p1 : Int32} {p2 : Int32} (C : x_C p s m args meth c cX6_feed 4 (some .boolean) RX6 D N0 gp) {F : (Nat → Int32)} {M : (Nat → Nat → Int32)} {H : Heap} {locs : List Loc} {ls : Array Slot} (hR : x_R D s N0 (fixM ad F M ++ XF) h H) (hS : va_S (x_A N0) s.heap H locs) (hl : lv_has ls 4 []) (hw : wX6_feed_b56 post p1 p2 F M) : W p l e rmX6_feed s m args below meth c H locs 0 0 (MQ below (x_Qc D N0 (x_Vi (qMi ad XF h post))) args s 0 0 (x_A N0)) (F0 m 56 ls []) := by
  obtain ⟨⟨hx, hb, hml, hown, hts⟩, hr, hlocks, hG, hN⟩ := id C
  unfold wX6_feed_b56 at hw
  refine lv_iconst (v := 1) hx hb dX6_feed_56 (by decide) ?_
  exact x_endz C hR hS rfl ⟨_, rfl, ⟨_, _, rfl, rfl, hw⟩⟩ (Nat.le_refl _) (Nat.le_refl _) dX6_feed_57
def tX6_feed_b30 (post : Int32 → (Nat → Int32) → (Nat → Nat → Int32) → Prop) (K30 : (Nat → Int32) → (Nat → Nat → Int32) → Int32 → Prop) (p1 : Int32) (p2 : Int32) (F : (Nat → Int32)) (M : (Nat → Nat → Int32)) (x3 : Int32) : Prop :=
  (x3 < 0 → wX6_feed_b56 post p1 p2 F M) ∧ (¬ x3 < 0 → ((F 48) = 0 → wX6_byteOf (fun r15 => wX6_take1 (fun F16 M16 => wX6_feed_b50 post K30 p1 p2 F16 M16 x3) r15 F M) p1 x3) ∧ (¬ (F 48) = 0 → wX6_feed_b50 post K30 p1 p2 F M x3))
def wX6_feed_b30 (post : Int32 → (Nat → Int32) → (Nat → Nat → Int32) → Prop) (p1 : Int32) (p2 : Int32) : Nat → (Nat → Int32) → (Nat → Nat → Int32) → Int32 → Prop
  | 0 => fun _ _ _ => False
  | n + 1 => fun F M x3 => tX6_feed_b30 post (wX6_feed_b30 post p1 p2 n) p1 p2 F M x3
theorem kX6_feed_b30 {post : Int32 → (Nat → Int32) → (Nat → Nat → Int32) → Prop} {p1 : Int32} {p2 : Int32} (C : x_C p s m args meth c cX6_feed 4 (some .boolean) RX6 D N0 gp) : ∀ (nn : Nat) (F : (Nat → Int32)) (M : (Nat → Nat → Int32)) (x3 : Int32) (H : Heap) (locs : List Loc) (ls : Array Slot), x_R D s N0 (fixM ad F M ++ XF) h H → va_S (x_A N0) s.heap H locs → lv_has ls 4 [(0, .ref (ad 1000)), (1, .int p1), (3, .int x3)] → wX6_feed_b30 post p1 p2 nn F M x3 → W p l e rmX6_feed s m args below meth c H locs 0 0 (MQ below (x_Qc D N0 (x_Vi (qMi ad XF h post))) args s 0 0 (x_A N0)) (F0 m 30 ls []) := by
  obtain ⟨⟨hx, hb, hml, hown, hts⟩, hr, hlocks, hG, hN⟩ := id C
  intro nn
  induction nn with
  | zero =>
    intro F M x3 H locs ls hR hS hl hw
    exact False.elim hw
  | succ nn ih =>
    intro F M x3 H locs ls hR hS hl hw
    have hK30 := ih
    have hw : tX6_feed_b30 post (wX6_feed_b30 post p1 p2 nn) p1 p2 F M x3 := hw
    unfold tX6_feed_b30 at hw
    refine lv_iload_n hx hb dX6_feed_30 rfl (lv_at hl 2 rfl) ?_
    refine lv_if_lt (tgt := 56) hx hb dX6_feed_31 (by decide) (fun c13 => ?_) (fun c13 => ?_)
    · have hw := hw.1 c13
      exact kX6_feed_b56 C hR hS (lv_sub hl [] rfl) hw
    · have hw := hw.2 c13
      refine lv_aload_n hx hb dX6_feed_34 rfl (lv_at hl 0 rfl) ?_
      refine x_get (ci := 5) (Cn := RX6) (T := TX6) (N := 55) (v := .int (F 48)) C (hR.rdX 0 rfl) rfl in_X6 48 (by decide) q1227 (fun _ h9 => h9) rfl dX6_feed_35 ?_
      refine lv_if_ne (tgt := 50) hx hb dX6_feed_38 (by decide) (fun c14 => ?_) (fun c14 => ?_)
      · have hw := hw.2 c14
        exact kX6_feed_b50 C hK30 hR hS (lv_sub hl [0, 1, 2] rfl) hw
      · have hw := hw.1 c14
        refine lv_aload_n hx hb dX6_feed_41 rfl (lv_at hl 0 rfl) ?_
        refine lv_iload_n hx hb dX6_feed_42 rfl (lv_at hl 1 rfl) ?_
        refine lv_iload_n hx hb dX6_feed_43 rfl (lv_at hl 2 rfl) ?_
        refine x_calli0 (x_runS (n := 2) (As := [.int p1, .int x3]) C hR hS (kX6_byteOf l D N0 gp _ _ p1 x3 _ hw) (lw_S q1359 q1360 q104 q1361) rfl rfl (by decide +kernel) ⟨Nat.le_of_ble_eq_true rfl, Nat.le_of_ble_eq_true rfl⟩ rfl hl.1 rfl (Nat.le_of_ble_eq_true rfl) dX6_feed_44 ⟨Nat.le_refl _, Nat.le_refl _⟩) hS (fun r15 X1 h1 H locs hq hR hS => ?_)
        obtain ⟨e1, e2, hw⟩ := hq
        rw [e1, e2] at hR
        refine x_callv0 (x_runV (n := 1) (As := [.int r15]) C hR hS (kX6_take1 l D N0 gp ad XF _ r15 F M _ hw) (lw_V q1387 q1389 qs45 q104 q1390) rfl rfl (by decide +kernel) ⟨Nat.le_of_ble_eq_true rfl, Nat.le_of_ble_eq_true rfl⟩ (x_recv C (hR.rdX 0 rfl) rfl) rfl hl.1 rfl (Nat.le_of_ble_eq_true rfl) dX6_feed_47 ⟨Nat.le_refl _, Nat.le_refl _⟩) hS (fun X1 h1 H locs hq hR hS => ?_)
        obtain ⟨F16, M16, e1, e2, hw⟩ := hq
        rw [e1, e2] at hR
        exact kX6_feed_b50 C hK30 hR hS (lv_sub hl [0, 1, 2] rfl) hw
end
def wX6_feed (post : Int32 → (Nat → Int32) → (Nat → Nat → Int32) → Prop) (p1 : Int32) (p2 : Int32) (F : (Nat → Int32)) (M : (Nat → Nat → Int32)) : Prop :=
  wX6_outside (fun r9 => (r9 = 0 → ((F 53) ≤ 300 → ∃ n12 : Nat, wX6_feed_b30 post p1 p2 n12 (upd F 0 0) M (p2 - 1)) ∧ (¬ (F 53) ≤ 300 → wX6_feed_b24 post p1 p2 (upd F 0 0) M)) ∧ (¬ r9 = 0 → wX6_feed_b24 post p1 p2 (upd F 0 0) M)) p2 1 4
theorem kX6_feed (l : Launch) (D : va_G) (N0 : Nat) (gp : Nat → Nat) (ad : Nat → Nat) (XF : x_X) (h : x_H) (p1 : Int32) (p2 : Int32) (F : (Nat → Int32)) (M : (Nat → Nat → Int32)) (post : Int32 → (Nat → Int32) → (Nat → Nat → Int32) → Prop) (hw : wX6_feed post p1 p2 F M) : Met l yX6_feed (ws_ yX6_feed cX6_feed 4 (some .boolean)) rmX6_feed (x_Pc D N0 gp (fixM ad F M ++ XF) h [.ref (ad 1000), .int p1, .int p2]) (x_Qc D N0 (x_Vi (qMi ad XF h post))) 0 0 (x_A N0) := by
  refine x_start (lv := [(0, .ref (ad 1000)), (1, .int p1), (2, .int p2)]) (by decide) rfl (Nat.le_of_ble_eq_true rfl) rfl ?_
  intro p e s m below meth c C hR ls hl
  have hS : va_S (x_A N0) s.heap s.heap [] := va_S.rf
  obtain ⟨⟨hx, hb, hml, hown, hts⟩, hr, hlocks, hG, hN⟩ := id C
  unfold wX6_feed at hw
  refine lv_aload_n hx hb dX6_feed_0 rfl (lv_at hl 0 rfl) ?_
  refine lv_iconst (v := 0) hx hb dX6_feed_1 (by decide) ?_
  refine x_putX (ci := 5) (Cn := RX6) (T := TX6) (N := 55) (v := .int 0) C hR hS 0 rfl rfl in_X6 tyX6_ok nmX6 0 (by decide) q1179 (fun _ h9 => h9) rfl rfl rfl (Nat.le_of_ble_eq_true rfl) (sM_f0 ..) dX6_feed_2 (fun H locs hR hS => ?_)
  refine lv_iload_n hx hb dX6_feed_5 rfl (lv_at hl 2 rfl) ?_
  refine lv_iconst (v := 1) hx hb dX6_feed_6 (by decide) ?_
  refine lv_iconst (v := 4) hx hb dX6_feed_7 (by decide) ?_
  refine x_calli0 (x_runS (n := 3) (As := [.int p2, .int 1, .int 4]) C hR hS (kX6_outside l D N0 gp _ _ p2 1 4 _ hw) (lw_S q1368 q1369 q104 q1370) rfl rfl (by decide +kernel) ⟨Nat.le_of_ble_eq_true rfl, Nat.le_of_ble_eq_true rfl⟩ rfl hl.1 rfl (Nat.le_of_ble_eq_true rfl) dX6_feed_8 ⟨Nat.le_refl _, Nat.le_refl _⟩) hS (fun r9 X1 h1 H locs hq hR hS => ?_)
  obtain ⟨e1, e2, hw⟩ := hq
  rw [e1, e2] at hR
  refine lv_if_ne (tgt := 24) hx hb dX6_feed_11 (by decide) (fun c10 => ?_) (fun c10 => ?_)
  · have hw := hw.2 c10
    exact kX6_feed_b24 C hR hS (lv_sub hl [] rfl) hw
  · have hw := hw.1 c10
    refine lv_aload_n hx hb dX6_feed_14 rfl (lv_at hl 0 rfl) ?_
    refine x_get (ci := 5) (Cn := RX6) (T := TX6) (N := 55) (v := .int (F 53)) C (hR.rdX 0 rfl) rfl in_X6 53 (by decide) q1232 (fun _ h9 => h9) rfl dX6_feed_15 ?_
    refine lv_sipush (v := 300) hx hb dX6_feed_18 (by decide) ?_
    refine lv_icmp_le (tgt := 26) hx hb dX6_feed_21 (by decide) (fun c11 => ?_) (fun c11 => ?_)
    · have hw := hw.1 c11
      refine lv_iload_n hx hb dX6_feed_26 rfl (lv_at hl 2 rfl) ?_
      refine lv_iconst (v := 1) hx hb dX6_feed_27 (by decide) ?_
      refine lv_isub hx hb dX6_feed_28 ?_
      refine lv_istore_n (lv' := [(3, .int (p2 - 1)), (0, .ref (ad 1000)), (1, .int p1), (2, .int p2)]) hx hb dX6_feed_29 rfl hl (by decide) rfl (fun ls hl => ?_)
      obtain ⟨n12, hw⟩ := hw
      exact kX6_feed_b30 C n12 _ _ _ _ _ _ hR hS (lv_sub hl [1, 2, 0] rfl) hw
    · have hw := hw.2 c11
      exact kX6_feed_b24 C hR hS (lv_sub hl [] rfl) hw
/-- PageServerModel.restart()V -/
abbrev rmX6_restart : Room := { frames := 3, cells := 0, slots := 0, locals := 66 }
section
variable {p : Program} {l : Launch} {e : Env} {s : State} {m : MethodId} {args : Array Value} {below : List Frame} {meth : Method} {c : Code} {D : va_G} {N0 : Nat} {gp : Nat → Nat} {ad : Nat → Nat} {XF : x_X} {h : x_H}
end
def wX6_restart (post : (Nat → Int32) → (Nat → Nat → Int32) → Prop)  (F : (Nat → Int32)) (M : (Nat → Nat → Int32)) : Prop :=
  wX6_begin (fun F2 M2 => post F2 M2) (upd F 0 0) M
theorem kX6_restart (l : Launch) (D : va_G) (N0 : Nat) (gp : Nat → Nat) (ad : Nat → Nat) (XF : x_X) (h : x_H)  (F : (Nat → Int32)) (M : (Nat → Nat → Int32)) (post : (Nat → Int32) → (Nat → Nat → Int32) → Prop) (hw : wX6_restart post  F M) : Met l yX6_restart (ws_ yX6_restart cX6_restart 1 none) rmX6_restart (x_Pc D N0 gp (fixM ad F M ++ XF) h [.ref (ad 1000)]) (x_Qc D N0 (x_Vv (qMv ad XF h post))) 0 0 (x_A N0) := by
  refine x_start (lv := [(0, .ref (ad 1000))]) (by decide) rfl (Nat.le_of_ble_eq_true rfl) rfl ?_
  intro p e s m below meth c C hR ls hl
  have hS : va_S (x_A N0) s.heap s.heap [] := va_S.rf
  obtain ⟨⟨hx, hb, hml, hown, hts⟩, hr, hlocks, hG, hN⟩ := id C
  unfold wX6_restart at hw
  refine lv_aload_n hx hb dX6_restart_0 rfl (lv_at hl 0 rfl) ?_
  refine lv_iconst (v := 0) hx hb dX6_restart_1 (by decide) ?_
  refine x_putX (ci := 5) (Cn := RX6) (T := TX6) (N := 55) (v := .int 0) C hR hS 0 rfl rfl in_X6 tyX6_ok nmX6 0 (by decide) q1179 (fun _ h9 => h9) rfl rfl rfl (Nat.le_of_ble_eq_true rfl) (sM_f0 ..) dX6_restart_2 (fun H locs hR hS => ?_)
  refine lv_aload_n hx hb dX6_restart_5 rfl (lv_at hl 0 rfl) ?_
  refine x_callv0 (x_runV (n := 0) (As := []) C hR hS (kX6_begin l D N0 gp ad XF _ (upd F 0 0) M _ hw) (lw_V q1167 q1169 qs39 q104 q1170) rfl rfl (by decide +kernel) ⟨Nat.le_of_ble_eq_true rfl, Nat.le_of_ble_eq_true rfl⟩ (x_recv C (hR.rdX 0 rfl) rfl) rfl hl.1 rfl (Nat.le_of_ble_eq_true rfl) dX6_restart_6 ⟨Nat.le_refl _, Nat.le_refl _⟩) hS (fun X1 h1 H locs hq hR hS => ?_)
  obtain ⟨F2, M2, e1, e2, hw⟩ := hq
  rw [e1, e2] at hR
  exact x_endv C hR hS ⟨rfl, ⟨_, _, rfl, rfl, hw⟩⟩ (Nat.le_refl _) (Nat.le_refl _) dX6_restart_9
/-- PageServerModel.waiting()I -/
abbrev rmX6_waiting : Room := { frames := 0, cells := 0, slots := 0, locals := 0 }
section
variable {p : Program} {l : Launch} {e : Env} {s : State} {m : MethodId} {args : Array Value} {below : List Frame} {meth : Method} {c : Code} {D : va_G} {N0 : Nat} {gp : Nat → Nat} {ad : Nat → Nat} {XF : x_X} {h : x_H}
end
def wX6_waiting (post : Int32 → (Nat → Int32) → (Nat → Nat → Int32) → Prop)  (F : (Nat → Int32)) (M : (Nat → Nat → Int32)) : Prop :=
  post (F 53) (upd F 0 0) M
theorem kX6_waiting (l : Launch) (D : va_G) (N0 : Nat) (gp : Nat → Nat) (ad : Nat → Nat) (XF : x_X) (h : x_H)  (F : (Nat → Int32)) (M : (Nat → Nat → Int32)) (post : Int32 → (Nat → Int32) → (Nat → Nat → Int32) → Prop) (hw : wX6_waiting post  F M) : Met l yX6_waiting (ws_ yX6_waiting cX6_waiting 1 (some .int)) rmX6_waiting (x_Pc D N0 gp (fixM ad F M ++ XF) h [.ref (ad 1000)]) (x_Qc D N0 (x_Vi (qMi ad XF h post))) 0 0 (x_A N0) := by
  refine x_start (lv := [(0, .ref (ad 1000))]) (by decide) rfl (Nat.le_of_ble_eq_true rfl) rfl ?_
  intro p e s m below meth c C hR ls hl
  have hS : va_S (x_A N0) s.heap s.heap [] := va_S.rf
  obtain ⟨⟨hx, hb, hml, hown, hts⟩, hr, hlocks, hG, hN⟩ := id C
  unfold wX6_waiting at hw
  refine lv_aload_n hx hb dX6_waiting_0 rfl (lv_at hl 0 rfl) ?_
  refine lv_iconst (v := 0) hx hb dX6_waiting_1 (by decide) ?_
  refine x_putX (ci := 5) (Cn := RX6) (T := TX6) (N := 55) (v := .int 0) C hR hS 0 rfl rfl in_X6 tyX6_ok nmX6 0 (by decide) q1179 (fun _ h9 => h9) rfl rfl rfl (Nat.le_of_ble_eq_true rfl) (sM_f0 ..) dX6_waiting_2 (fun H locs hR hS => ?_)
  refine lv_aload_n hx hb dX6_waiting_5 rfl (lv_at hl 0 rfl) ?_
  refine x_get (ci := 5) (Cn := RX6) (T := TX6) (N := 55) (v := .int (F 53)) C (hR.rdX 0 rfl) rfl in_X6 53 (by decide) q1232 (fun _ h9 => h9) rfl dX6_waiting_6 ?_
  exact x_endi C hR hS ⟨_, rfl, ⟨_, _, rfl, rfl, hw⟩⟩ (Nat.le_refl _) (Nat.le_refl _) dX6_waiting_9
/-- PageServerModel.out(I)I -/
abbrev rmX6_out : Room := { frames := 1, cells := 0, slots := 0, locals := 22 }
section
variable {p : Program} {l : Launch} {e : Env} {s : State} {m : MethodId} {args : Array Value} {below : List Frame} {meth : Method} {c : Code} {D : va_G} {N0 : Nat} {gp : Nat → Nat} {ad : Nat → Nat} {XF : x_X} {h : x_H}
end
def wX6_out (post : Int32 → (Nat → Int32) → (Nat → Nat → Int32) → Prop) (p1 : Int32) (F : (Nat → Int32)) (M : (Nat → Nat → Int32)) : Prop :=
  wX6_outside (fun r6 => (r6 = 0 → vp_in p1 1200 ∧ post ((M 54) p1.toNatClampNeg) (upd F 0 0) M) ∧ (¬ r6 = 0 → wX6_refuse (fun r9 F10 M10 => post r9 F10 M10) 1 F M)) p1 0 ((F 53) - 1)
theorem kX6_out (l : Launch) (D : va_G) (N0 : Nat) (gp : Nat → Nat) (ad : Nat → Nat) (XF : x_X) (h : x_H) (p1 : Int32) (F : (Nat → Int32)) (M : (Nat → Nat → Int32)) (post : Int32 → (Nat → Int32) → (Nat → Nat → Int32) → Prop) (hw : wX6_out post p1 F M) : Met l yX6_out (ws_ yX6_out cX6_out 2 (some .int)) rmX6_out (x_Pc D N0 gp (fixM ad F M ++ XF) h [.ref (ad 1000), .int p1]) (x_Qc D N0 (x_Vi (qMi ad XF h post))) 0 0 (x_A N0) := by
  refine x_start (lv := [(0, .ref (ad 1000)), (1, .int p1)]) (by decide) rfl (Nat.le_of_ble_eq_true rfl) rfl ?_
  intro p e s m below meth c C hR ls hl
  have hS : va_S (x_A N0) s.heap s.heap [] := va_S.rf
  obtain ⟨⟨hx, hb, hml, hown, hts⟩, hr, hlocks, hG, hN⟩ := id C
  unfold wX6_out at hw
  refine lv_iload_n hx hb dX6_out_0 rfl (lv_at hl 1 rfl) ?_
  refine lv_iconst (v := 0) hx hb dX6_out_1 (by decide) ?_
  refine lv_aload_n hx hb dX6_out_2 rfl (lv_at hl 0 rfl) ?_
  refine x_get (ci := 5) (Cn := RX6) (T := TX6) (N := 55) (v := .int (F 53)) C (hR.rdX 0 rfl) rfl in_X6 53 (by decide) q1232 (fun _ h9 => h9) rfl dX6_out_3 ?_
  refine lv_iconst (v := 1) hx hb dX6_out_6 (by decide) ?_
  refine lv_isub hx hb dX6_out_7 ?_
  refine x_calli0 (x_runS (n := 3) (As := [.int p1, .int 0, .int ((F 53) - 1)]) C hR hS (kX6_outside l D N0 gp _ _ p1 0 ((F 53) - 1) _ hw) (lw_S q1368 q1369 q104 q1370) rfl rfl (by decide +kernel) ⟨Nat.le_of_ble_eq_true rfl, Nat.le_of_ble_eq_true rfl⟩ rfl hl.1 rfl (Nat.le_of_ble_eq_true rfl) dX6_out_8 ⟨Nat.le_refl _, Nat.le_refl _⟩) hS (fun r6 X1 h1 H locs hq hR hS => ?_)
  obtain ⟨e1, e2, hw⟩ := hq
  rw [e1, e2] at hR
  refine lv_if_eq (tgt := 20) hx hb dX6_out_11 (by decide) (fun c7 => ?_) (fun c7 => ?_)
  · have hw := hw.1 c7
    refine lv_aload_n hx hb dX6_out_20 rfl (lv_at hl 0 rfl) ?_
    refine lv_iconst (v := 0) hx hb dX6_out_21 (by decide) ?_
    refine x_putX (ci := 5) (Cn := RX6) (T := TX6) (N := 55) (v := .int 0) C hR hS 0 rfl rfl in_X6 tyX6_ok nmX6 0 (by decide) q1179 (fun _ h9 => h9) rfl rfl rfl (Nat.le_of_ble_eq_true rfl) (sM_f0 ..) dX6_out_22 (fun H locs hR hS => ?_)
    refine lv_aload_n hx hb dX6_out_25 rfl (lv_at hl 0 rfl) ?_
    refine x_get (ci := 5) (Cn := RX6) (T := TX6) (N := 55) (v := .ref (ad 54)) C (hR.rdX 0 rfl) rfl in_X6 54 (by decide) q1233 (fun _ h9 => h9) rfl dX6_out_26 ?_
    refine lv_iload_n hx hb dX6_out_29 rfl (lv_at hl 1 rfl) ?_
    obtain ⟨b8, hw⟩ := hw
    refine x_iald (n := 1200) (f := (M 54)) C (hR.rdX 22 rfl) b8 dX6_out_30 ?_
    exact x_endi C hR hS ⟨_, rfl, ⟨_, _, rfl, rfl, hw⟩⟩ (Nat.le_refl _) (Nat.le_refl _) dX6_out_31
  · have hw := hw.2 c7
    refine lv_aload_n hx hb dX6_out_14 rfl (lv_at hl 0 rfl) ?_
    refine lv_iconst (v := 1) hx hb dX6_out_15 (by decide) ?_
    refine x_calli0 (x_runV (n := 1) (As := [.int 1]) C hR hS (kX6_refuse l D N0 gp ad XF _ 1 F M _ hw) (lw_V q1371 q1373 qs42 q104 q1374) rfl rfl (by decide +kernel) ⟨Nat.le_of_ble_eq_true rfl, Nat.le_of_ble_eq_true rfl⟩ (x_recv C (hR.rdX 0 rfl) rfl) rfl hl.1 rfl (Nat.le_of_ble_eq_true rfl) dX6_out_16 ⟨Nat.le_refl _, Nat.le_refl _⟩) hS (fun r9 X1 h1 H locs hq hR hS => ?_)
    obtain ⟨F10, M10, e1, e2, hw⟩ := hq
    rw [e1, e2] at hR
    exact x_endi C hR hS ⟨_, rfl, ⟨_, _, rfl, rfl, hw⟩⟩ (Nat.le_refl _) (Nat.le_refl _) dX6_out_19
/-- PageServerModel.take(I)V -/
abbrev rmX6_take : Room := { frames := 0, cells := 0, slots := 0, locals := 0 }
section
variable {p : Program} {l : Launch} {e : Env} {s : State} {m : MethodId} {args : Array Value} {below : List Frame} {meth : Method} {c : Code} {D : va_G} {N0 : Nat} {gp : Nat → Nat} {ad : Nat → Nat} {XF : x_X} {h : x_H}
def wX6_take_b60 (post : (Nat → Int32) → (Nat → Nat → Int32) → Prop) (p1 : Int32) (F : (Nat → Int32)) (M : (Nat → Nat → Int32)) (x2 : Int32) : Prop :=
  post (upd F 53 ((F 53) - x2)) M
theorem kX6_take_b60 {post : (Nat → Int32) → (Nat → Nat → Int32) → Prop} {p1 : Int32} (C : x_C p s m args meth c cX6_take 4 none RX6 D N0 gp) {F : (Nat → Int32)} {M : (Nat → Nat → Int32)} {x2 : Int32} {H : Heap} {locs : List Loc} {ls : Array Slot} (hR : x_R D s N0 (fixM ad F M ++ XF) h H) (hS : va_S (x_A N0) s.heap H locs) (hl : lv_has ls 4 [(0, .ref (ad 1000)), (2, .int x2)]) (hw : wX6_take_b60 post p1 F M x2) : W p l e rmX6_take s m args below meth c H locs 0 0 (MQ below (x_Qc D N0 (x_Vv (qMv ad XF h post))) args s 0 0 (x_A N0)) (F0 m 60 ls []) := by
  obtain ⟨⟨hx, hb, hml, hown, hts⟩, hr, hlocks, hG, hN⟩ := id C
  unfold wX6_take_b60 at hw
  refine lv_aload_n hx hb dX6_take_60 rfl (lv_at hl 0 rfl) ?_
  refine lv_dup hx hb dX6_take_61 rfl ?_
  refine x_get (ci := 5) (Cn := RX6) (T := TX6) (N := 55) (v := .int (F 53)) C (hR.rdX 0 rfl) rfl in_X6 53 (by decide) q1232 (fun _ h9 => h9) rfl dX6_take_62 ?_
  refine lv_iload_n hx hb dX6_take_65 rfl (lv_at hl 1 rfl) ?_
  refine lv_isub hx hb dX6_take_66 ?_
  refine x_putX (ci := 5) (Cn := RX6) (T := TX6) (N := 55) (v := .int ((F 53) - x2)) C hR hS 0 rfl rfl in_X6 tyX6_ok nmX6 53 (by decide) q1232 (fun _ h9 => h9) rfl rfl rfl (Nat.le_of_ble_eq_true rfl) (sM_f53 ..) dX6_take_67 (fun H locs hR hS => ?_)
  exact x_endv C hR hS ⟨rfl, ⟨_, _, rfl, rfl, hw⟩⟩ (Nat.le_refl _) (Nat.le_refl _) dX6_take_70
def tX6_take_b32 (post : (Nat → Int32) → (Nat → Nat → Int32) → Prop) (K32 : (Nat → Int32) → (Nat → Nat → Int32) → Int32 → Int32 → Prop) (p1 : Int32) (F : (Nat → Int32)) (M : (Nat → Nat → Int32)) (x2 : Int32) (x3 : Int32) : Prop :=
  ((F 53) ≤ x3 → wX6_take_b60 post p1 F M x2) ∧ (¬ (F 53) ≤ x3 → vp_in x3 1200 ∧ vp_in (x3 - x2) 1200 ∧ K32 F (va_up M 54 (upd (M 54) (x3 - x2).toNatClampNeg ((M 54) x3.toNatClampNeg))) x2 (x3 + 1))
def wX6_take_b32 (post : (Nat → Int32) → (Nat → Nat → Int32) → Prop) (p1 : Int32) : Nat → (Nat → Int32) → (Nat → Nat → Int32) → Int32 → Int32 → Prop
  | 0 => fun _ _ _ _ => False
  | n + 1 => fun F M x2 x3 => tX6_take_b32 post (wX6_take_b32 post p1 n) p1 F M x2 x3
theorem kX6_take_b32 {post : (Nat → Int32) → (Nat → Nat → Int32) → Prop} {p1 : Int32} (C : x_C p s m args meth c cX6_take 4 none RX6 D N0 gp) : ∀ (nn : Nat) (F : (Nat → Int32)) (M : (Nat → Nat → Int32)) (x2 : Int32) (x3 : Int32) (H : Heap) (locs : List Loc) (ls : Array Slot), x_R D s N0 (fixM ad F M ++ XF) h H → va_S (x_A N0) s.heap H locs → lv_has ls 4 [(0, .ref (ad 1000)), (2, .int x2), (3, .int x3)] → wX6_take_b32 post p1 nn F M x2 x3 → W p l e rmX6_take s m args below meth c H locs 0 0 (MQ below (x_Qc D N0 (x_Vv (qMv ad XF h post))) args s 0 0 (x_A N0)) (F0 m 32 ls []) := by
  obtain ⟨⟨hx, hb, hml, hown, hts⟩, hr, hlocks, hG, hN⟩ := id C
  intro nn
  induction nn with
  | zero =>
    intro F M x2 x3 H locs ls hR hS hl hw
    exact False.elim hw
  | succ nn ih =>
    intro F M x2 x3 H locs ls hR hS hl hw
    have hK32 := ih
    have hw : tX6_take_b32 post (wX6_take_b32 post p1 nn) p1 F M x2 x3 := hw
    unfold tX6_take_b32 at hw
    refine lv_iload_n hx hb dX6_take_32 rfl (lv_at hl 2 rfl) ?_
    refine lv_aload_n hx hb dX6_take_33 rfl (lv_at hl 0 rfl) ?_
    refine x_get (ci := 5) (Cn := RX6) (T := TX6) (N := 55) (v := .int (F 53)) C (hR.rdX 0 rfl) rfl in_X6 53 (by decide) q1232 (fun _ h9 => h9) rfl dX6_take_34 ?_
    refine lv_icmp_ge (tgt := 60) hx hb dX6_take_37 (by decide) (fun c10 => ?_) (fun c10 => ?_)
    · have hw := hw.1 c10
      exact kX6_take_b60 C hR hS (lv_sub hl [0, 1] rfl) hw
    · have hw := hw.2 c10
      refine lv_aload_n hx hb dX6_take_40 rfl (lv_at hl 0 rfl) ?_
      refine x_get (ci := 5) (Cn := RX6) (T := TX6) (N := 55) (v := .ref (ad 54)) C (hR.rdX 0 rfl) rfl in_X6 54 (by decide) q1233 (fun _ h9 => h9) rfl dX6_take_41 ?_
      refine lv_iload_n hx hb dX6_take_44 rfl (lv_at hl 2 rfl) ?_
      refine lv_iload_n hx hb dX6_take_45 rfl (lv_at hl 1 rfl) ?_
      refine lv_isub hx hb dX6_take_46 ?_
      refine lv_aload_n hx hb dX6_take_47 rfl (lv_at hl 0 rfl) ?_
      refine x_get (ci := 5) (Cn := RX6) (T := TX6) (N := 55) (v := .ref (ad 54)) C (hR.rdX 0 rfl) rfl in_X6 54 (by decide) q1233 (fun _ h9 => h9) rfl dX6_take_48 ?_
      refine lv_iload_n hx hb dX6_take_51 rfl (lv_at hl 2 rfl) ?_
      obtain ⟨b11, hw⟩ := hw
      refine x_iald (n := 1200) (f := (M 54)) C (hR.rdX 22 rfl) b11 dX6_take_52 ?_
      obtain ⟨b12, hw⟩ := hw
      refine x_iastX (n := 1200) (f := (M 54)) C hR hS 22 rfl b12 (sM_a54 ..) dX6_take_53 (fun H locs hR hS => ?_)
      refine lv_iinc (v := x3 + 1) (lv' := [(3, .int (x3 + 1)), (0, .ref (ad 1000)), (2, .int x2)]) hx hb dX6_take_54 hl (k := 2) rfl (x_inc 1 1 (by decide)) (by decide) rfl (fun ls hl => ?_)
      refine lv_goto (tgt := 32) hx hb dX6_take_57 (by decide) ?_
      exact hK32 _ _ _ _ _ _ _ hR hS (lv_sub hl [1, 2, 0] rfl) hw
def wX6_take_b29 (post : (Nat → Int32) → (Nat → Nat → Int32) → Prop) (p1 : Int32) (F : (Nat → Int32)) (M : (Nat → Nat → Int32)) (s0 : Int32) : Prop :=
  ∃ n9 : Nat, wX6_take_b32 post p1 n9 F M s0 s0
theorem kX6_take_b29 {post : (Nat → Int32) → (Nat → Nat → Int32) → Prop} {p1 : Int32} (C : x_C p s m args meth c cX6_take 4 none RX6 D N0 gp) {F : (Nat → Int32)} {M : (Nat → Nat → Int32)} {s0 : Int32} {H : Heap} {locs : List Loc} {ls : Array Slot} (hR : x_R D s N0 (fixM ad F M ++ XF) h H) (hS : va_S (x_A N0) s.heap H locs) (hl : lv_has ls 4 [(0, .ref (ad 1000))]) (hw : wX6_take_b29 post p1 F M s0) : W p l e rmX6_take s m args below meth c H locs 0 0 (MQ below (x_Qc D N0 (x_Vv (qMv ad XF h post))) args s 0 0 (x_A N0)) (F0 m 29 ls [.int s0]) := by
  obtain ⟨⟨hx, hb, hml, hown, hts⟩, hr, hlocks, hG, hN⟩ := id C
  unfold wX6_take_b29 at hw
  refine lv_istore_n (lv' := [(2, .int s0), (0, .ref (ad 1000))]) hx hb dX6_take_29 rfl hl (by decide) rfl (fun ls hl => ?_)
  refine lv_iload_n hx hb dX6_take_30 rfl (lv_at hl 0 rfl) ?_
  refine lv_istore_n (lv' := [(3, .int s0), (2, .int s0), (0, .ref (ad 1000))]) hx hb dX6_take_31 rfl hl (by decide) rfl (fun ls hl => ?_)
  obtain ⟨n9, hw⟩ := hw
  exact kX6_take_b32 C n9 _ _ _ _ _ _ _ hR hS (lv_sub hl [2, 1, 0] rfl) hw
end
def wX6_take (post : (Nat → Int32) → (Nat → Nat → Int32) → Prop) (p1 : Int32) (F : (Nat → Int32)) (M : (Nat → Nat → Int32)) : Prop :=
  (0 ≤ p1 → (p1 ≤ (F 53) → wX6_take_b29 post p1 (upd F 0 0) M p1) ∧ (¬ p1 ≤ (F 53) → wX6_take_b29 post p1 (upd F 0 0) M (F 53))) ∧ (¬ 0 ≤ p1 → wX6_take_b29 post p1 (upd F 0 0) M 0)
theorem kX6_take (l : Launch) (D : va_G) (N0 : Nat) (gp : Nat → Nat) (ad : Nat → Nat) (XF : x_X) (h : x_H) (p1 : Int32) (F : (Nat → Int32)) (M : (Nat → Nat → Int32)) (post : (Nat → Int32) → (Nat → Nat → Int32) → Prop) (hw : wX6_take post p1 F M) : Met l yX6_take (ws_ yX6_take cX6_take 4 none) rmX6_take (x_Pc D N0 gp (fixM ad F M ++ XF) h [.ref (ad 1000), .int p1]) (x_Qc D N0 (x_Vv (qMv ad XF h post))) 0 0 (x_A N0) := by
  refine x_start (lv := [(0, .ref (ad 1000)), (1, .int p1)]) (by decide) rfl (Nat.le_of_ble_eq_true rfl) rfl ?_
  intro p e s m below meth c C hR ls hl
  have hS : va_S (x_A N0) s.heap s.heap [] := va_S.rf
  obtain ⟨⟨hx, hb, hml, hown, hts⟩, hr, hlocks, hG, hN⟩ := id C
  unfold wX6_take at hw
  refine lv_aload_n hx hb dX6_take_0 rfl (lv_at hl 0 rfl) ?_
  refine lv_iconst (v := 0) hx hb dX6_take_1 (by decide) ?_
  refine x_putX (ci := 5) (Cn := RX6) (T := TX6) (N := 55) (v := .int 0) C hR hS 0 rfl rfl in_X6 tyX6_ok nmX6 0 (by decide) q1179 (fun _ h9 => h9) rfl rfl rfl (Nat.le_of_ble_eq_true rfl) (sM_f0 ..) dX6_take_2 (fun H locs hR hS => ?_)
  refine lv_iload_n hx hb dX6_take_5 rfl (lv_at hl 1 rfl) ?_
  refine lv_if_ge (tgt := 13) hx hb dX6_take_6 (by decide) (fun c7 => ?_) (fun c7 => ?_)
  · have hw := hw.1 c7
    refine lv_iload_n hx hb dX6_take_13 rfl (lv_at hl 1 rfl) ?_
    refine lv_aload_n hx hb dX6_take_14 rfl (lv_at hl 0 rfl) ?_
    refine x_get (ci := 5) (Cn := RX6) (T := TX6) (N := 55) (v := .int (F 53)) C (hR.rdX 0 rfl) rfl in_X6 53 (by decide) q1232 (fun _ h9 => h9) rfl dX6_take_15 ?_
    refine lv_icmp_le (tgt := 28) hx hb dX6_take_18 (by decide) (fun c8 => ?_) (fun c8 => ?_)
    · have hw := hw.1 c8
      refine lv_iload_n hx hb dX6_take_28 rfl (lv_at hl 1 rfl) ?_
      exact kX6_take_b29 C hR hS (lv_sub hl [0] rfl) hw
    · have hw := hw.2 c8
      refine lv_aload_n hx hb dX6_take_21 rfl (lv_at hl 0 rfl) ?_
      refine x_get (ci := 5) (Cn := RX6) (T := TX6) (N := 55) (v := .int (F 53)) C (hR.rdX 0 rfl) rfl in_X6 53 (by decide) q1232 (fun _ h9 => h9) rfl dX6_take_22 ?_
      refine lv_goto (tgt := 29) hx hb dX6_take_25 (by decide) ?_
      exact kX6_take_b29 C hR hS (lv_sub hl [0] rfl) hw
  · have hw := hw.2 c7
    refine lv_iconst (v := 0) hx hb dX6_take_9 (by decide) ?_
    refine lv_goto (tgt := 29) hx hb dX6_take_10 (by decide) ?_
    exact kX6_take_b29 C hR hS (lv_sub hl [0] rfl) hw
/-- PageServerModel.away()I -/
abbrev rmX6_away : Room := { frames := 0, cells := 0, slots := 0, locals := 0 }
section
variable {p : Program} {l : Launch} {e : Env} {s : State} {m : MethodId} {args : Array Value} {below : List Frame} {meth : Method} {c : Code} {D : va_G} {N0 : Nat} {gp : Nat → Nat} {ad : Nat → Nat} {XF : x_X} {h : x_H}
end
def wX6_away (post : Int32 → (Nat → Int32) → (Nat → Nat → Int32) → Prop)  (F : (Nat → Int32)) (M : (Nat → Nat → Int32)) : Prop :=
  post (F 48) (upd F 0 0) M
theorem kX6_away (l : Launch) (D : va_G) (N0 : Nat) (gp : Nat → Nat) (ad : Nat → Nat) (XF : x_X) (h : x_H)  (F : (Nat → Int32)) (M : (Nat → Nat → Int32)) (post : Int32 → (Nat → Int32) → (Nat → Nat → Int32) → Prop) (hw : wX6_away post  F M) : Met l yX6_away (ws_ yX6_away cX6_away 1 (some .int)) rmX6_away (x_Pc D N0 gp (fixM ad F M ++ XF) h [.ref (ad 1000)]) (x_Qc D N0 (x_Vi (qMi ad XF h post))) 0 0 (x_A N0) := by
  refine x_start (lv := [(0, .ref (ad 1000))]) (by decide) rfl (Nat.le_of_ble_eq_true rfl) rfl ?_
  intro p e s m below meth c C hR ls hl
  have hS : va_S (x_A N0) s.heap s.heap [] := va_S.rf
  obtain ⟨⟨hx, hb, hml, hown, hts⟩, hr, hlocks, hG, hN⟩ := id C
  unfold wX6_away at hw
  refine lv_aload_n hx hb dX6_away_0 rfl (lv_at hl 0 rfl) ?_
  refine lv_iconst (v := 0) hx hb dX6_away_1 (by decide) ?_
  refine x_putX (ci := 5) (Cn := RX6) (T := TX6) (N := 55) (v := .int 0) C hR hS 0 rfl rfl in_X6 tyX6_ok nmX6 0 (by decide) q1179 (fun _ h9 => h9) rfl rfl rfl (Nat.le_of_ble_eq_true rfl) (sM_f0 ..) dX6_away_2 (fun H locs hR hS => ?_)
  refine lv_aload_n hx hb dX6_away_5 rfl (lv_at hl 0 rfl) ?_
  refine x_get (ci := 5) (Cn := RX6) (T := TX6) (N := 55) (v := .int (F 48)) C (hR.rdX 0 rfl) rfl in_X6 48 (by decide) q1227 (fun _ h9 => h9) rfl dX6_away_6 ?_
  exact x_endi C hR hS ⟨_, rfl, ⟨_, _, rfl, rfl, hw⟩⟩ (Nat.le_refl _) (Nat.le_refl _) dX6_away_9
/-- PageServerModel.about(I)I -/
abbrev rmX6_about : Room := { frames := 2, cells := 0, slots := 0, locals := 43 }
section
variable {p : Program} {l : Launch} {e : Env} {s : State} {m : MethodId} {args : Array Value} {below : List Frame} {meth : Method} {c : Code} {D : va_G} {N0 : Nat} {gp : Nat → Nat} {ad : Nat → Nat} {XF : x_X} {h : x_H}
end
def wX6_about (post : Int32 → (Nat → Int32) → (Nat → Nat → Int32) → Prop) (p1 : Int32) (F : (Nat → Int32)) (M : (Nat → Nat → Int32)) : Prop :=
  (p1 = 0 → post (F 47) (upd F 0 0) M) ∧ (p1 = 1 → wX6_open (fun r3 => post r3 (upd F 0 0) M) (upd F 0 0) M) ∧ (p1 = 2 → post (F 50) (upd F 0 0) M) ∧ (p1 = 3 → post (F 52) (upd F 0 0) M) ∧ (p1 = 4 → post (F 7) (upd F 0 0) M) ∧ (p1 = 5 → post (F 6) (upd F 0 0) M) ∧ (p1 = 6 → wX6_taken (fun r4 => post r4 (upd F 0 0) M) (upd F 0 0) M) ∧ (p1 = 7 → post (F 34) (upd F 0 0) M) ∧ (¬ p1 = 0 → ¬ p1 = 1 → ¬ p1 = 2 → ¬ p1 = 3 → ¬ p1 = 4 → ¬ p1 = 5 → ¬ p1 = 6 → ¬ p1 = 7 → post (-1) (upd F 0 0) M)
theorem kX6_about (l : Launch) (D : va_G) (N0 : Nat) (gp : Nat → Nat) (ad : Nat → Nat) (XF : x_X) (h : x_H) (p1 : Int32) (F : (Nat → Int32)) (M : (Nat → Nat → Int32)) (post : Int32 → (Nat → Int32) → (Nat → Nat → Int32) → Prop) (hw : wX6_about post p1 F M) : Met l yX6_about (ws_ yX6_about cX6_about 2 (some .int)) rmX6_about (x_Pc D N0 gp (fixM ad F M ++ XF) h [.ref (ad 1000), .int p1]) (x_Qc D N0 (x_Vi (qMi ad XF h post))) 0 0 (x_A N0) := by
  refine x_start (lv := [(0, .ref (ad 1000)), (1, .int p1)]) (by decide) rfl (Nat.le_of_ble_eq_true rfl) rfl ?_
  intro p e s m below meth c C hR ls hl
  have hS : va_S (x_A N0) s.heap s.heap [] := va_S.rf
  obtain ⟨⟨hx, hb, hml, hown, hts⟩, hr, hlocks, hG, hN⟩ := id C
  unfold wX6_about at hw
  refine lv_aload_n hx hb dX6_about_0 rfl (lv_at hl 0 rfl) ?_
  refine lv_iconst (v := 0) hx hb dX6_about_1 (by decide) ?_
  refine x_putX (ci := 5) (Cn := RX6) (T := TX6) (N := 55) (v := .int 0) C hR hS 0 rfl rfl in_X6 tyX6_ok nmX6 0 (by decide) q1179 (fun _ h9 => h9) rfl rfl rfl (Nat.le_of_ble_eq_true rfl) (sM_f0 ..) dX6_about_2 (fun H locs hR hS => ?_)
  refine lv_iload_n hx hb dX6_about_5 rfl (lv_at hl 1 rfl) ?_
  by_cases c6_0 : p1 = 0
  · have hw := hw.1 c6_0
    refine lv_tableIn (tgt := 52) (off := 46) hx hb dX6_about_6 (by rw [c6_0]; decide) (by rw [c6_0]; decide) (by rw [c6_0]; decide) (by decide) ?_
    refine lv_aload_n hx hb dX6_about_52 rfl (lv_at hl 0 rfl) ?_
    refine x_get (ci := 5) (Cn := RX6) (T := TX6) (N := 55) (v := .int (F 47)) C (hR.rdX 0 rfl) rfl in_X6 47 (by decide) q1226 (fun _ h9 => h9) rfl dX6_about_53 ?_
    exact x_endi C hR hS ⟨_, rfl, ⟨_, _, rfl, rfl, hw⟩⟩ (Nat.le_refl _) (Nat.le_refl _) dX6_about_56
  · skip
    by_cases c6_1 : p1 = 1
    · have hw := hw.2.1 c6_1
      refine lv_tableIn (tgt := 57) (off := 51) hx hb dX6_about_6 (by rw [c6_1]; decide) (by rw [c6_1]; decide) (by rw [c6_1]; decide) (by decide) ?_
      refine lv_aload_n hx hb dX6_about_57 rfl (lv_at hl 0 rfl) ?_
      refine x_calli0 (x_runV (n := 0) (As := []) C hR hS (kX6_open l D N0 gp ad XF _ (upd F 0 0) M _ hw) (lw_V q1512 q1514 qs76 q104 q1515) rfl rfl (by decide +kernel) ⟨Nat.le_of_ble_eq_true rfl, Nat.le_of_ble_eq_true rfl⟩ (x_recv C (hR.rdX 0 rfl) rfl) rfl hl.1 rfl (Nat.le_of_ble_eq_true rfl) dX6_about_58 ⟨Nat.le_refl _, Nat.le_refl _⟩) hS (fun r3 X1 h1 H locs hq hR hS => ?_)
      obtain ⟨e1, e2, hw⟩ := hq
      rw [e1, e2] at hR
      exact x_endi C hR hS ⟨_, rfl, ⟨_, _, rfl, rfl, hw⟩⟩ (Nat.le_refl _) (Nat.le_refl _) dX6_about_61
    · skip
      by_cases c6_2 : p1 = 2
      · have hw := hw.2.2.1 c6_2
        refine lv_tableIn (tgt := 62) (off := 56) hx hb dX6_about_6 (by rw [c6_2]; decide) (by rw [c6_2]; decide) (by rw [c6_2]; decide) (by decide) ?_
        refine lv_aload_n hx hb dX6_about_62 rfl (lv_at hl 0 rfl) ?_
        refine x_get (ci := 5) (Cn := RX6) (T := TX6) (N := 55) (v := .int (F 50)) C (hR.rdX 0 rfl) rfl in_X6 50 (by decide) q1229 (fun _ h9 => h9) rfl dX6_about_63 ?_
        exact x_endi C hR hS ⟨_, rfl, ⟨_, _, rfl, rfl, hw⟩⟩ (Nat.le_refl _) (Nat.le_refl _) dX6_about_66
      · skip
        by_cases c6_3 : p1 = 3
        · have hw := hw.2.2.2.1 c6_3
          refine lv_tableIn (tgt := 67) (off := 61) hx hb dX6_about_6 (by rw [c6_3]; decide) (by rw [c6_3]; decide) (by rw [c6_3]; decide) (by decide) ?_
          refine lv_aload_n hx hb dX6_about_67 rfl (lv_at hl 0 rfl) ?_
          refine x_get (ci := 5) (Cn := RX6) (T := TX6) (N := 55) (v := .int (F 52)) C (hR.rdX 0 rfl) rfl in_X6 52 (by decide) q1231 (fun _ h9 => h9) rfl dX6_about_68 ?_
          exact x_endi C hR hS ⟨_, rfl, ⟨_, _, rfl, rfl, hw⟩⟩ (Nat.le_refl _) (Nat.le_refl _) dX6_about_71
        · skip
          by_cases c6_4 : p1 = 4
          · have hw := hw.2.2.2.2.1 c6_4
            refine lv_tableIn (tgt := 72) (off := 66) hx hb dX6_about_6 (by rw [c6_4]; decide) (by rw [c6_4]; decide) (by rw [c6_4]; decide) (by decide) ?_
            refine lv_aload_n hx hb dX6_about_72 rfl (lv_at hl 0 rfl) ?_
            refine x_get (ci := 5) (Cn := RX6) (T := TX6) (N := 55) (v := .int (F 7)) C (hR.rdX 0 rfl) rfl in_X6 7 (by decide) q1186 (fun _ h9 => h9) rfl dX6_about_73 ?_
            exact x_endi C hR hS ⟨_, rfl, ⟨_, _, rfl, rfl, hw⟩⟩ (Nat.le_refl _) (Nat.le_refl _) dX6_about_76
          · skip
            by_cases c6_5 : p1 = 5
            · have hw := hw.2.2.2.2.2.1 c6_5
              refine lv_tableIn (tgt := 77) (off := 71) hx hb dX6_about_6 (by rw [c6_5]; decide) (by rw [c6_5]; decide) (by rw [c6_5]; decide) (by decide) ?_
              refine lv_aload_n hx hb dX6_about_77 rfl (lv_at hl 0 rfl) ?_
              refine x_get (ci := 5) (Cn := RX6) (T := TX6) (N := 55) (v := .int (F 6)) C (hR.rdX 0 rfl) rfl in_X6 6 (by decide) q1185 (fun _ h9 => h9) rfl dX6_about_78 ?_
              exact x_endi C hR hS ⟨_, rfl, ⟨_, _, rfl, rfl, hw⟩⟩ (Nat.le_refl _) (Nat.le_refl _) dX6_about_81
            · skip
              by_cases c6_6 : p1 = 6
              · have hw := hw.2.2.2.2.2.2.1 c6_6
                refine lv_tableIn (tgt := 82) (off := 76) hx hb dX6_about_6 (by rw [c6_6]; decide) (by rw [c6_6]; decide) (by rw [c6_6]; decide) (by decide) ?_
                refine lv_aload_n hx hb dX6_about_82 rfl (lv_at hl 0 rfl) ?_
                refine x_calli0 (x_runV (n := 0) (As := []) C hR hS (kX6_taken l D N0 gp ad XF _ (upd F 0 0) M _ hw) (lw_V q1483 q1485 qs69 q104 q1486) rfl rfl (by decide +kernel) ⟨Nat.le_of_ble_eq_true rfl, Nat.le_of_ble_eq_true rfl⟩ (x_recv C (hR.rdX 0 rfl) rfl) rfl hl.1 rfl (Nat.le_of_ble_eq_true rfl) dX6_about_83 ⟨Nat.le_refl _, Nat.le_refl _⟩) hS (fun r4 X1 h1 H locs hq hR hS => ?_)
                obtain ⟨e1, e2, hw⟩ := hq
                rw [e1, e2] at hR
                exact x_endi C hR hS ⟨_, rfl, ⟨_, _, rfl, rfl, hw⟩⟩ (Nat.le_refl _) (Nat.le_refl _) dX6_about_86
              · skip
                by_cases c6_7 : p1 = 7
                · have hw := hw.2.2.2.2.2.2.2.1 c6_7
                  refine lv_tableIn (tgt := 87) (off := 81) hx hb dX6_about_6 (by rw [c6_7]; decide) (by rw [c6_7]; decide) (by rw [c6_7]; decide) (by decide) ?_
                  refine lv_aload_n hx hb dX6_about_87 rfl (lv_at hl 0 rfl) ?_
                  refine x_get (ci := 5) (Cn := RX6) (T := TX6) (N := 55) (v := .int (F 34)) C (hR.rdX 0 rfl) rfl in_X6 34 (by decide) q1213 (fun _ h9 => h9) rfl dX6_about_88 ?_
                  exact x_endi C hR hS ⟨_, rfl, ⟨_, _, rfl, rfl, hw⟩⟩ (Nat.le_refl _) (Nat.le_refl _) dX6_about_91
                · skip
                  have hw := hw.2.2.2.2.2.2.2.2 c6_0 c6_1 c6_2 c6_3 c6_4 c6_5 c6_6 c6_7
                  have tc6_0 := lv_neT (a := 0) c6_0 (by decide)
                  have tc6_1 := lv_neT (a := 1) c6_1 (by decide)
                  have tc6_2 := lv_neT (a := 2) c6_2 (by decide)
                  have tc6_3 := lv_neT (a := 3) c6_3 (by decide)
                  have tc6_4 := lv_neT (a := 4) c6_4 (by decide)
                  have tc6_5 := lv_neT (a := 5) c6_5 (by decide)
                  have tc6_6 := lv_neT (a := 6) c6_6 (by decide)
                  have tc6_7 := lv_neT (a := 7) c6_7 (by decide)
                  refine lv_tableOut (tgt := 92) hx hb dX6_about_6 (by omega) (by decide) ?_
                  refine lv_iconst (v := -1) hx hb dX6_about_92 (by decide) ?_
                  exact x_endi C hR hS ⟨_, rfl, ⟨_, _, rfl, rfl, hw⟩⟩ (Nat.le_refl _) (Nat.le_refl _) dX6_about_93
/-- PageServerModel.stream(II)I -/
abbrev rmX6_stream : Room := { frames := 1, cells := 0, slots := 0, locals := 23 }
section
variable {p : Program} {l : Launch} {e : Env} {s : State} {m : MethodId} {args : Array Value} {below : List Frame} {meth : Method} {c : Code} {D : va_G} {N0 : Nat} {gp : Nat → Nat} {ad : Nat → Nat} {XF : x_X} {h : x_H}
def wX6_stream_b20 (post : Int32 → (Nat → Int32) → (Nat → Nat → Int32) → Prop) (p1 : Int32) (p2 : Int32) (F : (Nat → Int32)) (M : (Nat → Nat → Int32)) : Prop :=
  wX6_refuse (fun r27 F28 M28 => post r27 F28 M28) 1 F M
theorem kX6_stream_b20 {post : Int32 → (Nat → Int32) → (Nat → Nat → Int32) → Prop} {p1 : Int32} {p2 : Int32} (C : x_C p s m args meth c cX6_stream 4 (some .int) RX6 D N0 gp) {F : (Nat → Int32)} {M : (Nat → Nat → Int32)} {H : Heap} {locs : List Loc} {ls : Array Slot} (hR : x_R D s N0 (fixM ad F M ++ XF) h H) (hS : va_S (x_A N0) s.heap H locs) (hl : lv_has ls 4 [(0, .ref (ad 1000))]) (hw : wX6_stream_b20 post p1 p2 F M) : W p l e rmX6_stream s m args below meth c H locs 0 0 (MQ below (x_Qc D N0 (x_Vi (qMi ad XF h post))) args s 0 0 (x_A N0)) (F0 m 20 ls []) := by
  obtain ⟨⟨hx, hb, hml, hown, hts⟩, hr, hlocks, hG, hN⟩ := id C
  unfold wX6_stream_b20 at hw
  refine lv_aload_n hx hb dX6_stream_20 rfl (lv_at hl 0 rfl) ?_
  refine lv_iconst (v := 1) hx hb dX6_stream_21 (by decide) ?_
  refine x_calli0 (x_runV (n := 1) (As := [.int 1]) C hR hS (kX6_refuse l D N0 gp ad XF _ 1 F M _ hw) (lw_V q1371 q1373 qs42 q104 q1374) rfl rfl (by decide +kernel) ⟨Nat.le_of_ble_eq_true rfl, Nat.le_of_ble_eq_true rfl⟩ (x_recv C (hR.rdX 0 rfl) rfl) rfl hl.1 rfl (Nat.le_of_ble_eq_true rfl) dX6_stream_22 ⟨Nat.le_refl _, Nat.le_refl _⟩) hS (fun r27 X1 h1 H locs hq hR hS => ?_)
  obtain ⟨F28, M28, e1, e2, hw⟩ := hq
  rw [e1, e2] at hR
  exact x_endi C hR hS ⟨_, rfl, ⟨_, _, rfl, rfl, hw⟩⟩ (Nat.le_refl _) (Nat.le_refl _) dX6_stream_25
def wX6_stream_b86 (post : Int32 → (Nat → Int32) → (Nat → Nat → Int32) → Prop) (p1 : Int32) (p2 : Int32) (F : (Nat → Int32)) (M : (Nat → Nat → Int32)) (s0 : Int32) : Prop :=
  post s0 F M
theorem kX6_stream_b86 {post : Int32 → (Nat → Int32) → (Nat → Nat → Int32) → Prop} {p1 : Int32} {p2 : Int32} (C : x_C p s m args meth c cX6_stream 4 (some .int) RX6 D N0 gp) {F : (Nat → Int32)} {M : (Nat → Nat → Int32)} {s0 : Int32} {H : Heap} {locs : List Loc} {ls : Array Slot} (hR : x_R D s N0 (fixM ad F M ++ XF) h H) (hS : va_S (x_A N0) s.heap H locs) (hl : lv_has ls 4 []) (hw : wX6_stream_b86 post p1 p2 F M s0) : W p l e rmX6_stream s m args below meth c H locs 0 0 (MQ below (x_Qc D N0 (x_Vi (qMi ad XF h post))) args s 0 0 (x_A N0)) (F0 m 86 ls [.int s0]) := by
  obtain ⟨⟨hx, hb, hml, hown, hts⟩, hr, hlocks, hG, hN⟩ := id C
  unfold wX6_stream_b86 at hw
  exact x_endi C hR hS ⟨_, rfl, ⟨_, _, rfl, rfl, hw⟩⟩ (Nat.le_refl _) (Nat.le_refl _) dX6_stream_86
end
def wX6_stream (post : Int32 → (Nat → Int32) → (Nat → Nat → Int32) → Prop) (p1 : Int32) (p2 : Int32) (F : (Nat → Int32)) (M : (Nat → Nat → Int32)) : Prop :=
  wX6_slotOf (fun r15 => (r15 = (-1) → wX6_stream_b20 post p1 p2 F M) ∧ (¬ r15 = (-1) → wX6_outside (fun r17 => (r17 = 0 → (p2 = 0 → vp_in r15 4 ∧ wX6_stream_b86 post p1 p2 (upd F 0 0) M ((M 13) r15.toNatClampNeg)) ∧ (¬ p2 = 0 → (p2 = 1 → vp_in r15 4 ∧ wX6_stream_b86 post p1 p2 (upd F 0 0) M ((M 16) r15.toNatClampNeg)) ∧ (¬ p2 = 1 → (p2 = 2 → vp_in r15 4 ∧ wX6_stream_b86 post p1 p2 (upd F 0 0) M ((M 14) r15.toNatClampNeg)) ∧ (¬ p2 = 2 → vp_in r15 4 ∧ (((M 18) r15.toNatClampNeg) = 0 → wX6_stream_b86 post p1 p2 (upd F 0 0) M 0) ∧ (¬ ((M 18) r15.toNatClampNeg) = 0 → wX6_stream_b86 post p1 p2 (upd F 0 0) M 1))))) ∧ (¬ r17 = 0 → wX6_stream_b20 post p1 p2 F M)) p2 0 3)) p1 F M
theorem kX6_stream (l : Launch) (D : va_G) (N0 : Nat) (gp : Nat → Nat) (ad : Nat → Nat) (XF : x_X) (h : x_H) (p1 : Int32) (p2 : Int32) (F : (Nat → Int32)) (M : (Nat → Nat → Int32)) (post : Int32 → (Nat → Int32) → (Nat → Nat → Int32) → Prop) (hw : wX6_stream post p1 p2 F M) : Met l yX6_stream (ws_ yX6_stream cX6_stream 4 (some .int)) rmX6_stream (x_Pc D N0 gp (fixM ad F M ++ XF) h [.ref (ad 1000), .int p1, .int p2]) (x_Qc D N0 (x_Vi (qMi ad XF h post))) 0 0 (x_A N0) := by
  refine x_start (lv := [(0, .ref (ad 1000)), (1, .int p1), (2, .int p2)]) (by decide) rfl (Nat.le_of_ble_eq_true rfl) rfl ?_
  intro p e s m below meth c C hR ls hl
  have hS : va_S (x_A N0) s.heap s.heap [] := va_S.rf
  obtain ⟨⟨hx, hb, hml, hown, hts⟩, hr, hlocks, hG, hN⟩ := id C
  unfold wX6_stream at hw
  refine lv_aload_n hx hb dX6_stream_0 rfl (lv_at hl 0 rfl) ?_
  refine lv_iload_n hx hb dX6_stream_1 rfl (lv_at hl 1 rfl) ?_
  refine x_calli0 (x_runV (n := 1) (As := [.int p1]) C hR hS (kX6_slotOf l D N0 gp ad XF _ p1 F M _ hw) (lw_V q1427 q1429 qs55 q104 q1430) rfl rfl (by decide +kernel) ⟨Nat.le_of_ble_eq_true rfl, Nat.le_of_ble_eq_true rfl⟩ (x_recv C (hR.rdX 0 rfl) rfl) rfl hl.1 rfl (Nat.le_of_ble_eq_true rfl) dX6_stream_2 ⟨Nat.le_refl _, Nat.le_refl _⟩) hS (fun r15 X1 h1 H locs hq hR hS => ?_)
  obtain ⟨e1, e2, hw⟩ := hq
  rw [e1, e2] at hR
  refine lv_istore_n (lv' := [(3, .int r15), (0, .ref (ad 1000)), (1, .int p1), (2, .int p2)]) hx hb dX6_stream_5 rfl hl (by decide) rfl (fun ls hl => ?_)
  refine lv_iload_n hx hb dX6_stream_6 rfl (lv_at hl 0 rfl) ?_
  refine lv_iconst (v := -1) hx hb dX6_stream_7 (by decide) ?_
  refine lv_icmp_eq (tgt := 20) hx hb dX6_stream_8 (by decide) (fun c16 => ?_) (fun c16 => ?_)
  · have hw := hw.1 c16
    exact kX6_stream_b20 C hR hS (lv_sub hl [1] rfl) hw
  · have hw := hw.2 c16
    refine lv_iload_n hx hb dX6_stream_11 rfl (lv_at hl 3 rfl) ?_
    refine lv_iconst (v := 0) hx hb dX6_stream_12 (by decide) ?_
    refine lv_iconst (v := 3) hx hb dX6_stream_13 (by decide) ?_
    refine x_calli0 (x_runS (n := 3) (As := [.int p2, .int 0, .int 3]) C hR hS (kX6_outside l D N0 gp _ _ p2 0 3 _ hw) (lw_S q1368 q1369 q104 q1370) rfl rfl (by decide +kernel) ⟨Nat.le_of_ble_eq_true rfl, Nat.le_of_ble_eq_true rfl⟩ rfl hl.1 rfl (Nat.le_of_ble_eq_true rfl) dX6_stream_14 ⟨Nat.le_refl _, Nat.le_refl _⟩) hS (fun r17 X1 h1 H locs hq hR hS => ?_)
    obtain ⟨e1, e2, hw⟩ := hq
    rw [e1, e2] at hR
    refine lv_if_eq (tgt := 26) hx hb dX6_stream_17 (by decide) (fun c18 => ?_) (fun c18 => ?_)
    · have hw := hw.1 c18
      refine lv_aload_n hx hb dX6_stream_26 rfl (lv_at hl 1 rfl) ?_
      refine lv_iconst (v := 0) hx hb dX6_stream_27 (by decide) ?_
      refine x_putX (ci := 5) (Cn := RX6) (T := TX6) (N := 55) (v := .int 0) C hR hS 0 rfl rfl in_X6 tyX6_ok nmX6 0 (by decide) q1179 (fun _ h9 => h9) rfl rfl rfl (Nat.le_of_ble_eq_true rfl) (sM_f0 ..) dX6_stream_28 (fun H locs hR hS => ?_)
      refine lv_iload_n hx hb dX6_stream_31 rfl (lv_at hl 3 rfl) ?_
      refine lv_if_ne (tgt := 44) hx hb dX6_stream_32 (by decide) (fun c19 => ?_) (fun c19 => ?_)
      · have hw := hw.2 c19
        refine lv_iload_n hx hb dX6_stream_44 rfl (lv_at hl 3 rfl) ?_
        refine lv_iconst (v := 1) hx hb dX6_stream_45 (by decide) ?_
        refine lv_icmp_ne (tgt := 58) hx hb dX6_stream_46 (by decide) (fun c20 => ?_) (fun c20 => ?_)
        · have hw := hw.2 c20
          refine lv_iload_n hx hb dX6_stream_58 rfl (lv_at hl 3 rfl) ?_
          refine lv_iconst (v := 2) hx hb dX6_stream_59 (by decide) ?_
          refine lv_icmp_ne (tgt := 72) hx hb dX6_stream_60 (by decide) (fun c21 => ?_) (fun c21 => ?_)
          · have hw := hw.2 c21
            refine lv_aload_n hx hb dX6_stream_72 rfl (lv_at hl 1 rfl) ?_
            refine x_get (ci := 5) (Cn := RX6) (T := TX6) (N := 55) (v := .ref (ad 18)) C (hR.rdX 0 rfl) rfl in_X6 18 (by decide) q1197 (fun _ h9 => h9) rfl dX6_stream_73 ?_
            refine lv_iload_n hx hb dX6_stream_76 rfl (lv_at hl 0 rfl) ?_
            obtain ⟨b22, hw⟩ := hw
            refine x_zald (n := 4) (f := (M 18)) C (hR.rdX 15 rfl) b22 dX6_stream_77 ?_
            refine lv_if_eq (tgt := 85) hx hb dX6_stream_78 (by decide) (fun c23 => ?_) (fun c23 => ?_)
            · have hw := hw.1 c23
              refine lv_iconst (v := 0) hx hb dX6_stream_85 (by decide) ?_
              exact kX6_stream_b86 C hR hS (lv_sub hl [] rfl) hw
            · have hw := hw.2 c23
              refine lv_iconst (v := 1) hx hb dX6_stream_81 (by decide) ?_
              refine lv_goto (tgt := 86) hx hb dX6_stream_82 (by decide) ?_
              exact kX6_stream_b86 C hR hS (lv_sub hl [] rfl) hw
          · have hw := hw.1 c21
            refine lv_aload_n hx hb dX6_stream_63 rfl (lv_at hl 1 rfl) ?_
            refine x_get (ci := 5) (Cn := RX6) (T := TX6) (N := 55) (v := .ref (ad 14)) C (hR.rdX 0 rfl) rfl in_X6 14 (by decide) q1193 (fun _ h9 => h9) rfl dX6_stream_64 ?_
            refine lv_iload_n hx hb dX6_stream_67 rfl (lv_at hl 0 rfl) ?_
            obtain ⟨b24, hw⟩ := hw
            refine x_iald (n := 4) (f := (M 14)) C (hR.rdX 11 rfl) b24 dX6_stream_68 ?_
            refine lv_goto (tgt := 86) hx hb dX6_stream_69 (by decide) ?_
            exact kX6_stream_b86 C hR hS (lv_sub hl [] rfl) hw
        · have hw := hw.1 c20
          refine lv_aload_n hx hb dX6_stream_49 rfl (lv_at hl 1 rfl) ?_
          refine x_get (ci := 5) (Cn := RX6) (T := TX6) (N := 55) (v := .ref (ad 16)) C (hR.rdX 0 rfl) rfl in_X6 16 (by decide) q1195 (fun _ h9 => h9) rfl dX6_stream_50 ?_
          refine lv_iload_n hx hb dX6_stream_53 rfl (lv_at hl 0 rfl) ?_
          obtain ⟨b25, hw⟩ := hw
          refine x_iald (n := 4) (f := (M 16)) C (hR.rdX 13 rfl) b25 dX6_stream_54 ?_
          refine lv_goto (tgt := 86) hx hb dX6_stream_55 (by decide) ?_
          exact kX6_stream_b86 C hR hS (lv_sub hl [] rfl) hw
      · have hw := hw.1 c19
        refine lv_aload_n hx hb dX6_stream_35 rfl (lv_at hl 1 rfl) ?_
        refine x_get (ci := 5) (Cn := RX6) (T := TX6) (N := 55) (v := .ref (ad 13)) C (hR.rdX 0 rfl) rfl in_X6 13 (by decide) q1192 (fun _ h9 => h9) rfl dX6_stream_36 ?_
        refine lv_iload_n hx hb dX6_stream_39 rfl (lv_at hl 0 rfl) ?_
        obtain ⟨b26, hw⟩ := hw
        refine x_iald (n := 4) (f := (M 13)) C (hR.rdX 10 rfl) b26 dX6_stream_40 ?_
        refine lv_goto (tgt := 86) hx hb dX6_stream_41 (by decide) ?_
        exact kX6_stream_b86 C hR hS (lv_sub hl [] rfl) hw
    · have hw := hw.2 c18
      exact kX6_stream_b20 C hR hS (lv_sub hl [1] rfl) hw
/-- PageServerModel.entry(III)I -/
abbrev rmX6_entry : Room := { frames := 1, cells := 0, slots := 0, locals := 22 }
section
variable {p : Program} {l : Launch} {e : Env} {s : State} {m : MethodId} {args : Array Value} {below : List Frame} {meth : Method} {c : Code} {D : va_G} {N0 : Nat} {gp : Nat → Nat} {ad : Nat → Nat} {XF : x_X} {h : x_H}
def wX6_entry_b24 (post : Int32 → (Nat → Int32) → (Nat → Nat → Int32) → Prop) (p1 : Int32) (p2 : Int32) (p3 : Int32) (F : (Nat → Int32)) (M : (Nat → Nat → Int32)) : Prop :=
  wX6_refuse (fun r24 F25 M25 => post r24 F25 M25) 1 F M
theorem kX6_entry_b24 {post : Int32 → (Nat → Int32) → (Nat → Nat → Int32) → Prop} {p1 : Int32} {p2 : Int32} {p3 : Int32} (C : x_C p s m args meth c cX6_entry 5 (some .int) RX6 D N0 gp) {F : (Nat → Int32)} {M : (Nat → Nat → Int32)} {H : Heap} {locs : List Loc} {ls : Array Slot} (hR : x_R D s N0 (fixM ad F M ++ XF) h H) (hS : va_S (x_A N0) s.heap H locs) (hl : lv_has ls 5 [(0, .ref (ad 1000))]) (hw : wX6_entry_b24 post p1 p2 p3 F M) : W p l e rmX6_entry s m args below meth c H locs 0 0 (MQ below (x_Qc D N0 (x_Vi (qMi ad XF h post))) args s 0 0 (x_A N0)) (F0 m 24 ls []) := by
  obtain ⟨⟨hx, hb, hml, hown, hts⟩, hr, hlocks, hG, hN⟩ := id C
  unfold wX6_entry_b24 at hw
  refine lv_aload_n hx hb dX6_entry_24 rfl (lv_at hl 0 rfl) ?_
  refine lv_iconst (v := 1) hx hb dX6_entry_25 (by decide) ?_
  refine x_calli0 (x_runV (n := 1) (As := [.int 1]) C hR hS (kX6_refuse l D N0 gp ad XF _ 1 F M _ hw) (lw_V q1371 q1373 qs42 q104 q1374) rfl rfl (by decide +kernel) ⟨Nat.le_of_ble_eq_true rfl, Nat.le_of_ble_eq_true rfl⟩ (x_recv C (hR.rdX 0 rfl) rfl) rfl hl.1 rfl (Nat.le_of_ble_eq_true rfl) dX6_entry_26 ⟨Nat.le_refl _, Nat.le_refl _⟩) hS (fun r24 X1 h1 H locs hq hR hS => ?_)
  obtain ⟨F25, M25, e1, e2, hw⟩ := hq
  rw [e1, e2] at hR
  exact x_endi C hR hS ⟨_, rfl, ⟨_, _, rfl, rfl, hw⟩⟩ (Nat.le_refl _) (Nat.le_refl _) dX6_entry_29
def wX6_entry_b111 (post : Int32 → (Nat → Int32) → (Nat → Nat → Int32) → Prop) (p1 : Int32) (p2 : Int32) (p3 : Int32) (F : (Nat → Int32)) (M : (Nat → Nat → Int32)) (s0 : Int32) : Prop :=
  post s0 F M
theorem kX6_entry_b111 {post : Int32 → (Nat → Int32) → (Nat → Nat → Int32) → Prop} {p1 : Int32} {p2 : Int32} {p3 : Int32} (C : x_C p s m args meth c cX6_entry 5 (some .int) RX6 D N0 gp) {F : (Nat → Int32)} {M : (Nat → Nat → Int32)} {s0 : Int32} {H : Heap} {locs : List Loc} {ls : Array Slot} (hR : x_R D s N0 (fixM ad F M ++ XF) h H) (hS : va_S (x_A N0) s.heap H locs) (hl : lv_has ls 5 []) (hw : wX6_entry_b111 post p1 p2 p3 F M s0) : W p l e rmX6_entry s m args below meth c H locs 0 0 (MQ below (x_Qc D N0 (x_Vi (qMi ad XF h post))) args s 0 0 (x_A N0)) (F0 m 111 ls [.int s0]) := by
  obtain ⟨⟨hx, hb, hml, hown, hts⟩, hr, hlocks, hG, hN⟩ := id C
  unfold wX6_entry_b111 at hw
  exact x_endi C hR hS ⟨_, rfl, ⟨_, _, rfl, rfl, hw⟩⟩ (Nat.le_refl _) (Nat.le_refl _) dX6_entry_111
def wX6_entry_b53 (post : Int32 → (Nat → Int32) → (Nat → Nat → Int32) → Prop) (p1 : Int32) (p2 : Int32) (p3 : Int32) (F : (Nat → Int32)) (M : (Nat → Nat → Int32)) (s0 : Int32) : Prop :=
  wX6_outside (fun r26 => (r26 = 0 → (p2 = 0 → vp_in (((20 : Int32) * (p1 - 1)) + p3) 340 ∧ wX6_entry_b111 post p1 p2 p3 (upd F 0 0) M ((M 9) (((20 : Int32) * (p1 - 1)) + p3).toNatClampNeg)) ∧ (¬ p2 = 0 → vp_in (((20 : Int32) * (p1 - 1)) + p3) 340 ∧ wX6_entry_b111 post p1 p2 p3 (upd F 0 0) M ((M 11) (((20 : Int32) * (p1 - 1)) + p3).toNatClampNeg))) ∧ (¬ r26 = 0 → wX6_refuse (fun r31 F32 M32 => post r31 F32 M32) 1 F M)) p3 0 (s0 - 1)
theorem kX6_entry_b53 {post : Int32 → (Nat → Int32) → (Nat → Nat → Int32) → Prop} {p1 : Int32} {p2 : Int32} {p3 : Int32} (C : x_C p s m args meth c cX6_entry 5 (some .int) RX6 D N0 gp) {F : (Nat → Int32)} {M : (Nat → Nat → Int32)} {s0 : Int32} {H : Heap} {locs : List Loc} {ls : Array Slot} (hR : x_R D s N0 (fixM ad F M ++ XF) h H) (hS : va_S (x_A N0) s.heap H locs) (hl : lv_has ls 5 [(0, .ref (ad 1000)), (1, .int p1), (2, .int p2), (3, .int p3)]) (hw : wX6_entry_b53 post p1 p2 p3 F M s0) : W p l e rmX6_entry s m args below meth c H locs 0 0 (MQ below (x_Qc D N0 (x_Vi (qMi ad XF h post))) args s 0 0 (x_A N0)) (F0 m 53 ls [.int s0]) := by
  obtain ⟨⟨hx, hb, hml, hown, hts⟩, hr, hlocks, hG, hN⟩ := id C
  unfold wX6_entry_b53 at hw
  refine lv_istore (lv' := [(4, .int s0), (0, .ref (ad 1000)), (1, .int p1), (2, .int p2), (3, .int p3)]) hx hb dX6_entry_53 hl (by decide) rfl (fun ls hl => ?_)
  refine lv_iload_n hx hb dX6_entry_55 rfl (lv_at hl 4 rfl) ?_
  refine lv_iconst (v := 0) hx hb dX6_entry_56 (by decide) ?_
  refine lv_iload hx hb dX6_entry_57 (lv_at hl 0 rfl) ?_
  refine lv_iconst (v := 1) hx hb dX6_entry_59 (by decide) ?_
  refine lv_isub hx hb dX6_entry_60 ?_
  refine x_calli0 (x_runS (n := 3) (As := [.int p3, .int 0, .int (s0 - 1)]) C hR hS (kX6_outside l D N0 gp _ _ p3 0 (s0 - 1) _ hw) (lw_S q1368 q1369 q104 q1370) rfl rfl (by decide +kernel) ⟨Nat.le_of_ble_eq_true rfl, Nat.le_of_ble_eq_true rfl⟩ rfl hl.1 rfl (Nat.le_of_ble_eq_true rfl) dX6_entry_61 ⟨Nat.le_refl _, Nat.le_refl _⟩) hS (fun r26 X1 h1 H locs hq hR hS => ?_)
  obtain ⟨e1, e2, hw⟩ := hq
  rw [e1, e2] at hR
  refine lv_if_eq (tgt := 73) hx hb dX6_entry_64 (by decide) (fun c27 => ?_) (fun c27 => ?_)
  · have hw := hw.1 c27
    refine lv_aload_n hx hb dX6_entry_73 rfl (lv_at hl 1 rfl) ?_
    refine lv_iconst (v := 0) hx hb dX6_entry_74 (by decide) ?_
    refine x_putX (ci := 5) (Cn := RX6) (T := TX6) (N := 55) (v := .int 0) C hR hS 0 rfl rfl in_X6 tyX6_ok nmX6 0 (by decide) q1179 (fun _ h9 => h9) rfl rfl rfl (Nat.le_of_ble_eq_true rfl) (sM_f0 ..) dX6_entry_75 (fun H locs hR hS => ?_)
    refine lv_iload_n hx hb dX6_entry_78 rfl (lv_at hl 3 rfl) ?_
    refine lv_if_ne (tgt := 98) hx hb dX6_entry_79 (by decide) (fun c28 => ?_) (fun c28 => ?_)
    · have hw := hw.2 c28
      refine lv_aload_n hx hb dX6_entry_98 rfl (lv_at hl 1 rfl) ?_
      refine x_get (ci := 5) (Cn := RX6) (T := TX6) (N := 55) (v := .ref (ad 11)) C (hR.rdX 0 rfl) rfl in_X6 11 (by decide) q1190 (fun _ h9 => h9) rfl dX6_entry_99 ?_
      refine lv_bipush (v := 20) hx hb dX6_entry_102 (by decide) ?_
      refine lv_iload_n hx hb dX6_entry_104 rfl (lv_at hl 2 rfl) ?_
      refine lv_iconst (v := 1) hx hb dX6_entry_105 (by decide) ?_
      refine lv_isub hx hb dX6_entry_106 ?_
      refine lv_imul hx hb dX6_entry_107 ?_
      refine lv_iload_n hx hb dX6_entry_108 rfl (lv_at hl 4 rfl) ?_
      refine lv_iadd hx hb dX6_entry_109 ?_
      obtain ⟨b29, hw⟩ := hw
      refine x_cald (n := 340) (f := (M 11)) C (hR.rdX 8 rfl) b29 dX6_entry_110 ?_
      exact kX6_entry_b111 C hR hS (lv_sub hl [] rfl) hw
    · have hw := hw.1 c28
      refine lv_aload_n hx hb dX6_entry_82 rfl (lv_at hl 1 rfl) ?_
      refine x_get (ci := 5) (Cn := RX6) (T := TX6) (N := 55) (v := .ref (ad 9)) C (hR.rdX 0 rfl) rfl in_X6 9 (by decide) q1188 (fun _ h9 => h9) rfl dX6_entry_83 ?_
      refine lv_bipush (v := 20) hx hb dX6_entry_86 (by decide) ?_
      refine lv_iload_n hx hb dX6_entry_88 rfl (lv_at hl 2 rfl) ?_
      refine lv_iconst (v := 1) hx hb dX6_entry_89 (by decide) ?_
      refine lv_isub hx hb dX6_entry_90 ?_
      refine lv_imul hx hb dX6_entry_91 ?_
      refine lv_iload_n hx hb dX6_entry_92 rfl (lv_at hl 4 rfl) ?_
      refine lv_iadd hx hb dX6_entry_93 ?_
      obtain ⟨b30, hw⟩ := hw
      refine x_cald (n := 340) (f := (M 9)) C (hR.rdX 6 rfl) b30 dX6_entry_94 ?_
      refine lv_goto (tgt := 111) hx hb dX6_entry_95 (by decide) ?_
      exact kX6_entry_b111 C hR hS (lv_sub hl [] rfl) hw
  · have hw := hw.2 c27
    refine lv_aload_n hx hb dX6_entry_67 rfl (lv_at hl 1 rfl) ?_
    refine lv_iconst (v := 1) hx hb dX6_entry_68 (by decide) ?_
    refine x_calli0 (x_runV (n := 1) (As := [.int 1]) C hR hS (kX6_refuse l D N0 gp ad XF _ 1 F M _ hw) (lw_V q1371 q1373 qs42 q104 q1374) rfl rfl (by decide +kernel) ⟨Nat.le_of_ble_eq_true rfl, Nat.le_of_ble_eq_true rfl⟩ (x_recv C (hR.rdX 0 rfl) rfl) rfl hl.1 rfl (Nat.le_of_ble_eq_true rfl) dX6_entry_69 ⟨Nat.le_refl _, Nat.le_refl _⟩) hS (fun r31 X1 h1 H locs hq hR hS => ?_)
    obtain ⟨F32, M32, e1, e2, hw⟩ := hq
    rw [e1, e2] at hR
    exact x_endi C hR hS ⟨_, rfl, ⟨_, _, rfl, rfl, hw⟩⟩ (Nat.le_refl _) (Nat.le_refl _) dX6_entry_72
end
def wX6_entry (post : Int32 → (Nat → Int32) → (Nat → Nat → Int32) → Prop) (p1 : Int32) (p2 : Int32) (p3 : Int32) (F : (Nat → Int32)) (M : (Nat → Nat → Int32)) : Prop :=
  wX6_outside (fun r17 => (r17 = 0 → wX6_outside (fun r19 => (r19 = 0 → (p2 = 0 → vp_in (p1 - 1) 17 ∧ wX6_entry_b53 post p1 p2 p3 F M ((M 8) (p1 - 1).toNatClampNeg)) ∧ (¬ p2 = 0 → vp_in (p1 - 1) 17 ∧ wX6_entry_b53 post p1 p2 p3 F M ((M 10) (p1 - 1).toNatClampNeg))) ∧ (¬ r19 = 0 → wX6_entry_b24 post p1 p2 p3 F M)) p2 0 1) ∧ (¬ r17 = 0 → wX6_entry_b24 post p1 p2 p3 F M)) p1 1 ((7 : Int32) + (F 6))
theorem kX6_entry (l : Launch) (D : va_G) (N0 : Nat) (gp : Nat → Nat) (ad : Nat → Nat) (XF : x_X) (h : x_H) (p1 : Int32) (p2 : Int32) (p3 : Int32) (F : (Nat → Int32)) (M : (Nat → Nat → Int32)) (post : Int32 → (Nat → Int32) → (Nat → Nat → Int32) → Prop) (hw : wX6_entry post p1 p2 p3 F M) : Met l yX6_entry (ws_ yX6_entry cX6_entry 5 (some .int)) rmX6_entry (x_Pc D N0 gp (fixM ad F M ++ XF) h [.ref (ad 1000), .int p1, .int p2, .int p3]) (x_Qc D N0 (x_Vi (qMi ad XF h post))) 0 0 (x_A N0) := by
  refine x_start (lv := [(0, .ref (ad 1000)), (1, .int p1), (2, .int p2), (3, .int p3)]) (by decide) rfl (Nat.le_of_ble_eq_true rfl) rfl ?_
  intro p e s m below meth c C hR ls hl
  have hS : va_S (x_A N0) s.heap s.heap [] := va_S.rf
  obtain ⟨⟨hx, hb, hml, hown, hts⟩, hr, hlocks, hG, hN⟩ := id C
  unfold wX6_entry at hw
  refine lv_iload_n hx hb dX6_entry_0 rfl (lv_at hl 1 rfl) ?_
  refine lv_iconst (v := 1) hx hb dX6_entry_1 (by decide) ?_
  refine lv_bipush (v := 7) hx hb dX6_entry_2 (by decide) ?_
  refine lv_aload_n hx hb dX6_entry_4 rfl (lv_at hl 0 rfl) ?_
  refine x_get (ci := 5) (Cn := RX6) (T := TX6) (N := 55) (v := .int (F 6)) C (hR.rdX 0 rfl) rfl in_X6 6 (by decide) q1185 (fun _ h9 => h9) rfl dX6_entry_5 ?_
  refine lv_iadd hx hb dX6_entry_8 ?_
  refine x_calli0 (x_runS (n := 3) (As := [.int p1, .int 1, .int ((7 : Int32) + (F 6))]) C hR hS (kX6_outside l D N0 gp _ _ p1 1 ((7 : Int32) + (F 6)) _ hw) (lw_S q1368 q1369 q104 q1370) rfl rfl (by decide +kernel) ⟨Nat.le_of_ble_eq_true rfl, Nat.le_of_ble_eq_true rfl⟩ rfl hl.1 rfl (Nat.le_of_ble_eq_true rfl) dX6_entry_9 ⟨Nat.le_refl _, Nat.le_refl _⟩) hS (fun r17 X1 h1 H locs hq hR hS => ?_)
  obtain ⟨e1, e2, hw⟩ := hq
  rw [e1, e2] at hR
  refine lv_if_ne (tgt := 24) hx hb dX6_entry_12 (by decide) (fun c18 => ?_) (fun c18 => ?_)
  · have hw := hw.2 c18
    exact kX6_entry_b24 C hR hS (lv_sub hl [0] rfl) hw
  · have hw := hw.1 c18
    refine lv_iload_n hx hb dX6_entry_15 rfl (lv_at hl 2 rfl) ?_
    refine lv_iconst (v := 0) hx hb dX6_entry_16 (by decide) ?_
    refine lv_iconst (v := 1) hx hb dX6_entry_17 (by decide) ?_
    refine x_calli0 (x_runS (n := 3) (As := [.int p2, .int 0, .int 1]) C hR hS (kX6_outside l D N0 gp _ _ p2 0 1 _ hw) (lw_S q1368 q1369 q104 q1370) rfl rfl (by decide +kernel) ⟨Nat.le_of_ble_eq_true rfl, Nat.le_of_ble_eq_true rfl⟩ rfl hl.1 rfl (Nat.le_of_ble_eq_true rfl) dX6_entry_18 ⟨Nat.le_refl _, Nat.le_refl _⟩) hS (fun r19 X1 h1 H locs hq hR hS => ?_)
    obtain ⟨e1, e2, hw⟩ := hq
    rw [e1, e2] at hR
    refine lv_if_eq (tgt := 30) hx hb dX6_entry_21 (by decide) (fun c20 => ?_) (fun c20 => ?_)
    · have hw := hw.1 c20
      refine lv_iload_n hx hb dX6_entry_30 rfl (lv_at hl 2 rfl) ?_
      refine lv_if_ne (tgt := 45) hx hb dX6_entry_31 (by decide) (fun c21 => ?_) (fun c21 => ?_)
      · have hw := hw.2 c21
        refine lv_aload_n hx hb dX6_entry_45 rfl (lv_at hl 0 rfl) ?_
        refine x_get (ci := 5) (Cn := RX6) (T := TX6) (N := 55) (v := .ref (ad 10)) C (hR.rdX 0 rfl) rfl in_X6 10 (by decide) q1189 (fun _ h9 => h9) rfl dX6_entry_46 ?_
        refine lv_iload_n hx hb dX6_entry_49 rfl (lv_at hl 1 rfl) ?_
        refine lv_iconst (v := 1) hx hb dX6_entry_50 (by decide) ?_
        refine lv_isub hx hb dX6_entry_51 ?_
        obtain ⟨b22, hw⟩ := hw
        refine x_iald (n := 17) (f := (M 10)) C (hR.rdX 7 rfl) b22 dX6_entry_52 ?_
        exact kX6_entry_b53 C hR hS (lv_sub hl [0, 1, 2, 3] rfl) hw
      · have hw := hw.1 c21
        refine lv_aload_n hx hb dX6_entry_34 rfl (lv_at hl 0 rfl) ?_
        refine x_get (ci := 5) (Cn := RX6) (T := TX6) (N := 55) (v := .ref (ad 8)) C (hR.rdX 0 rfl) rfl in_X6 8 (by decide) q1187 (fun _ h9 => h9) rfl dX6_entry_35 ?_
        refine lv_iload_n hx hb dX6_entry_38 rfl (lv_at hl 1 rfl) ?_
        refine lv_iconst (v := 1) hx hb dX6_entry_39 (by decide) ?_
        refine lv_isub hx hb dX6_entry_40 ?_
        obtain ⟨b23, hw⟩ := hw
        refine x_iald (n := 17) (f := (M 8)) C (hR.rdX 5 rfl) b23 dX6_entry_41 ?_
        refine lv_goto (tgt := 53) hx hb dX6_entry_42 (by decide) ?_
        exact kX6_entry_b53 C hR hS (lv_sub hl [0, 1, 2, 3] rfl) hw
    · have hw := hw.2 c20
      exact kX6_entry_b24 C hR hS (lv_sub hl [0] rfl) hw
