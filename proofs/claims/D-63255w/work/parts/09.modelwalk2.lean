/-! the walks of PageServerModel, printed by gen/walk.py -/
set_option maxHeartbeats 4000000
set_option maxRecDepth 100000
/-- PageServerModel.close(I)I -/
abbrev rmX6_close : Room := { frames := 3, cells := 0, slots := 0, locals := 68 }
section
variable {p : Program} {l : Launch} {e : Env} {s : State} {m : MethodId} {args : Array Value} {below : List Frame} {meth : Method} {c : Code} {D : va_G} {N0 : Nat} {gp : Nat → Nat} {ad : Nat → Nat} {XF : x_X} {h : x_H}
def wX6_close_b35 (post : Int32 → (Nat → Int32) → (Nat → Nat → Int32) → Prop) (p1 : Int32) (F : (Nat → Int32)) (M : (Nat → Nat → Int32)) : Prop :=
  wX6_answer (fun F14 M14 => post 0 F14 M14) p1 F M
theorem kX6_close_b35 {post : Int32 → (Nat → Int32) → (Nat → Nat → Int32) → Prop} {p1 : Int32} (C : x_C p s m args meth c cX6_close 2 (some .int) RX6 D N0 gp) {F : (Nat → Int32)} {M : (Nat → Nat → Int32)} {H : Heap} {locs : List Loc} {ls : Array Slot} (hR : x_R D s N0 (fixM ad F M ++ XF) h H) (hS : va_S (x_A N0) s.heap H locs) (hl : lv_has ls 2 [(0, .ref (ad 1000)), (1, .int p1)]) (hw : wX6_close_b35 post p1 F M) : W p l e rmX6_close s m args below meth c H locs 0 0 (MQ below (x_Qc D N0 (x_Vi (qMi ad XF h post))) args s 0 0 (x_A N0)) (F0 m 35 ls []) := by
  obtain ⟨⟨hx, hb, hml, hown, hts⟩, hr, hlocks, hG, hN⟩ := id C
  unfold wX6_close_b35 at hw
  refine lv_aload_n hx hb dX6_close_35 rfl (lv_at hl 0 rfl) ?_
  refine lv_iload_n hx hb dX6_close_36 rfl (lv_at hl 1 rfl) ?_
  refine x_callv0 (x_runV (n := 1) (As := [.int p1]) C hR hS (kX6_answer l D N0 gp ad XF _ p1 F M _ hw) (lw_V q1435 q1437 qs57 q104 q1438) rfl rfl (by decide +kernel) ⟨Nat.le_of_ble_eq_true rfl, Nat.le_of_ble_eq_true rfl⟩ (x_recv C (hR.rdX 0 rfl) rfl) rfl hl.1 rfl (Nat.le_of_ble_eq_true rfl) dX6_close_37 ⟨Nat.le_refl _, Nat.le_refl _⟩) hS (fun X1 h1 H locs hq hR hS => ?_)
  obtain ⟨F14, M14, e1, e2, hw⟩ := hq
  rw [e1, e2] at hR
  refine lv_iconst (v := 0) hx hb dX6_close_40 (by decide) ?_
  exact x_endi C hR hS ⟨_, rfl, ⟨_, _, rfl, rfl, hw⟩⟩ (Nat.le_refl _) (Nat.le_refl _) dX6_close_41
end
def wX6_close (post : Int32 → (Nat → Int32) → (Nat → Nat → Int32) → Prop) (p1 : Int32) (F : (Nat → Int32)) (M : (Nat → Nat → Int32)) : Prop :=
  vp_in p1 4 ∧ vp_in p1 4 ∧ (((M 15) p1.toNatClampNeg) = (-1) → wX6_close_b35 post p1 F (va_up M 18 (upd (M 18) p1.toNatClampNeg 1))) ∧ (¬ ((M 15) p1.toNatClampNeg) = (-1) → vp_in p1 4 ∧ vp_in p1 4 ∧ (((M 15) p1.toNatClampNeg) = ((M 14) p1.toNatClampNeg) → wX6_close_b35 post p1 F (va_up M 18 (upd (M 18) p1.toNatClampNeg 1))) ∧ (¬ ((M 15) p1.toNatClampNeg) = ((M 14) p1.toNatClampNeg) → post 101 F (va_up M 18 (upd (M 18) p1.toNatClampNeg 1))))
theorem kX6_close (l : Launch) (D : va_G) (N0 : Nat) (gp : Nat → Nat) (ad : Nat → Nat) (XF : x_X) (h : x_H) (p1 : Int32) (F : (Nat → Int32)) (M : (Nat → Nat → Int32)) (post : Int32 → (Nat → Int32) → (Nat → Nat → Int32) → Prop) (hw : wX6_close post p1 F M) : Met l yX6_close (ws_ yX6_close cX6_close 2 (some .int)) rmX6_close (x_Pc D N0 gp (fixM ad F M ++ XF) h [.ref (ad 1000), .int p1]) (x_Qc D N0 (x_Vi (qMi ad XF h post))) 0 0 (x_A N0) := by
  refine x_start (lv := [(0, .ref (ad 1000)), (1, .int p1)]) (by decide) rfl (Nat.le_of_ble_eq_true rfl) rfl ?_
  intro p e s m below meth c C hR ls hl
  have hS : va_S (x_A N0) s.heap s.heap [] := va_S.rf
  obtain ⟨⟨hx, hb, hml, hown, hts⟩, hr, hlocks, hG, hN⟩ := id C
  unfold wX6_close at hw
  refine lv_aload_n hx hb dX6_close_0 rfl (lv_at hl 0 rfl) ?_
  refine x_get (ci := 5) (Cn := RX6) (T := TX6) (N := 55) (v := .ref (ad 18)) C (hR.rdX 0 rfl) rfl in_X6 18 (by decide) q1197 (fun _ h9 => h9) rfl dX6_close_1 ?_
  refine lv_iload_n hx hb dX6_close_4 rfl (lv_at hl 1 rfl) ?_
  refine lv_iconst (v := 1) hx hb dX6_close_5 (by decide) ?_
  obtain ⟨b8, hw⟩ := hw
  refine x_zastX (n := 4) (f := (M 18)) C hR hS 15 rfl b8 rfl (sM_a18 ..) dX6_close_6 (fun H locs hR hS => ?_)
  refine lv_aload_n hx hb dX6_close_7 rfl (lv_at hl 0 rfl) ?_
  refine x_get (ci := 5) (Cn := RX6) (T := TX6) (N := 55) (v := .ref (ad 15)) C (hR.rdX 0 rfl) rfl in_X6 15 (by decide) q1194 (fun _ h9 => h9) rfl dX6_close_8 ?_
  refine lv_iload_n hx hb dX6_close_11 rfl (lv_at hl 1 rfl) ?_
  obtain ⟨b9, hw⟩ := hw
  refine x_iald (n := 4) (f := (M 15)) C (hR.rdX 12 rfl) b9 dX6_close_12 ?_
  refine lv_iconst (v := -1) hx hb dX6_close_13 (by decide) ?_
  refine lv_icmp_eq (tgt := 35) hx hb dX6_close_14 (by decide) (fun c10 => ?_) (fun c10 => ?_)
  · have hw := hw.1 c10
    exact kX6_close_b35 C hR hS (lv_sub hl [0, 1] rfl) hw
  · have hw := hw.2 c10
    refine lv_aload_n hx hb dX6_close_17 rfl (lv_at hl 0 rfl) ?_
    refine x_get (ci := 5) (Cn := RX6) (T := TX6) (N := 55) (v := .ref (ad 15)) C (hR.rdX 0 rfl) rfl in_X6 15 (by decide) q1194 (fun _ h9 => h9) rfl dX6_close_18 ?_
    refine lv_iload_n hx hb dX6_close_21 rfl (lv_at hl 1 rfl) ?_
    obtain ⟨b11, hw⟩ := hw
    refine x_iald (n := 4) (f := (M 15)) C (hR.rdX 12 rfl) b11 dX6_close_22 ?_
    refine lv_aload_n hx hb dX6_close_23 rfl (lv_at hl 0 rfl) ?_
    refine x_get (ci := 5) (Cn := RX6) (T := TX6) (N := 55) (v := .ref (ad 14)) C (hR.rdX 0 rfl) rfl in_X6 14 (by decide) q1193 (fun _ h9 => h9) rfl dX6_close_24 ?_
    refine lv_iload_n hx hb dX6_close_27 rfl (lv_at hl 1 rfl) ?_
    obtain ⟨b12, hw⟩ := hw
    refine x_iald (n := 4) (f := (M 14)) C (hR.rdX 11 rfl) b12 dX6_close_28 ?_
    refine lv_icmp_eq (tgt := 35) hx hb dX6_close_29 (by decide) (fun c13 => ?_) (fun c13 => ?_)
    · have hw := hw.1 c13
      exact kX6_close_b35 C hR hS (lv_sub hl [0, 1] rfl) hw
    · have hw := hw.2 c13
      refine lv_bipush (v := 101) hx hb dX6_close_32 (by decide) ?_
      exact x_endi C hR hS ⟨_, rfl, ⟨_, _, rfl, rfl, hw⟩⟩ (Nat.le_refl _) (Nat.le_refl _) dX6_close_34
/-- PageServerModel.data()I -/
abbrev rmX6_data : Room := { frames := 4, cells := 0, slots := 0, locals := 89 }
section
variable {p : Program} {l : Launch} {e : Env} {s : State} {m : MethodId} {args : Array Value} {below : List Frame} {meth : Method} {c : Code} {D : va_G} {N0 : Nat} {gp : Nat → Nat} {ad : Nat → Nat} {XF : x_X} {h : x_H}
def wX6_data_b25 (post : Int32 → (Nat → Int32) → (Nat → Nat → Int32) → Prop)  (F : (Nat → Int32)) (M : (Nat → Nat → Int32)) : Prop :=
  post 1 F M
theorem kX6_data_b25 {post : Int32 → (Nat → Int32) → (Nat → Nat → Int32) → Prop} (C : x_C p s m args meth c cX6_data 2 (some .int) RX6 D N0 gp) {F : (Nat → Int32)} {M : (Nat → Nat → Int32)} {H : Heap} {locs : List Loc} {ls : Array Slot} (hR : x_R D s N0 (fixM ad F M ++ XF) h H) (hS : va_S (x_A N0) s.heap H locs) (hl : lv_has ls 2 []) (hw : wX6_data_b25 post F M) : W p l e rmX6_data s m args below meth c H locs 0 0 (MQ below (x_Qc D N0 (x_Vi (qMi ad XF h post))) args s 0 0 (x_A N0)) (F0 m 25 ls []) := by
  obtain ⟨⟨hx, hb, hml, hown, hts⟩, hr, hlocks, hG, hN⟩ := id C
  unfold wX6_data_b25 at hw
  refine lv_iconst (v := 1) hx hb dX6_data_25 (by decide) ?_
  exact x_endi C hR hS ⟨_, rfl, ⟨_, _, rfl, rfl, hw⟩⟩ (Nat.le_refl _) (Nat.le_refl _) dX6_data_26
def wX6_data_b77 (post : Int32 → (Nat → Int32) → (Nat → Nat → Int32) → Prop)  (F : (Nat → Int32)) (M : (Nat → Nat → Int32)) : Prop :=
  post 105 F M
theorem kX6_data_b77 {post : Int32 → (Nat → Int32) → (Nat → Nat → Int32) → Prop} (C : x_C p s m args meth c cX6_data 2 (some .int) RX6 D N0 gp) {F : (Nat → Int32)} {M : (Nat → Nat → Int32)} {H : Heap} {locs : List Loc} {ls : Array Slot} (hR : x_R D s N0 (fixM ad F M ++ XF) h H) (hS : va_S (x_A N0) s.heap H locs) (hl : lv_has ls 2 []) (hw : wX6_data_b77 post F M) : W p l e rmX6_data s m args below meth c H locs 0 0 (MQ below (x_Qc D N0 (x_Vi (qMi ad XF h post))) args s 0 0 (x_A N0)) (F0 m 77 ls []) := by
  obtain ⟨⟨hx, hb, hml, hown, hts⟩, hr, hlocks, hG, hN⟩ := id C
  unfold wX6_data_b77 at hw
  refine lv_bipush (v := 105) hx hb dX6_data_77 (by decide) ?_
  exact x_endi C hR hS ⟨_, rfl, ⟨_, _, rfl, rfl, hw⟩⟩ (Nat.le_refl _) (Nat.le_refl _) dX6_data_79
def wX6_data_b143 (post : Int32 → (Nat → Int32) → (Nat → Nat → Int32) → Prop)  (F : (Nat → Int32)) (M : (Nat → Nat → Int32)) : Prop :=
  post 0 F M
theorem kX6_data_b143 {post : Int32 → (Nat → Int32) → (Nat → Nat → Int32) → Prop} (C : x_C p s m args meth c cX6_data 2 (some .int) RX6 D N0 gp) {F : (Nat → Int32)} {M : (Nat → Nat → Int32)} {H : Heap} {locs : List Loc} {ls : Array Slot} (hR : x_R D s N0 (fixM ad F M ++ XF) h H) (hS : va_S (x_A N0) s.heap H locs) (hl : lv_has ls 2 []) (hw : wX6_data_b143 post F M) : W p l e rmX6_data s m args below meth c H locs 0 0 (MQ below (x_Qc D N0 (x_Vi (qMi ad XF h post))) args s 0 0 (x_A N0)) (F0 m 143 ls []) := by
  obtain ⟨⟨hx, hb, hml, hown, hts⟩, hr, hlocks, hG, hN⟩ := id C
  unfold wX6_data_b143 at hw
  refine lv_iconst (v := 0) hx hb dX6_data_143 (by decide) ?_
  exact x_endi C hR hS ⟨_, rfl, ⟨_, _, rfl, rfl, hw⟩⟩ (Nat.le_refl _) (Nat.le_refl _) dX6_data_144
def wX6_data_b54 (post : Int32 → (Nat → Int32) → (Nat → Nat → Int32) → Prop)  (F : (Nat → Int32)) (M : (Nat → Nat → Int32)) : Prop :=
  wX6_slotOf (fun r32 => (r32 = (-1) → wX6_data_b77 post F M) ∧ (¬ r32 = (-1) → vp_in r32 4 ∧ (((M 18) r32.toNatClampNeg) = 0 → ((F 28) ≤ 50 → vp_in r32 4 ∧ vp_in r32 4 ∧ wX6_has (fun r39 => (r39 = 0 → ((F 28) ≤ 0 → wX6_data_b143 post F (va_up M 14 (upd (M 14) r32.toNatClampNeg (((M 14) r32.toNatClampNeg) + ((F 30) - (F 29)))))) ∧ (¬ (F 28) ≤ 0 → wX6_credit (fun F42 M42 => wX6_data_b143 post F42 M42) (F 27) (F 28) F (va_up M 14 (upd (M 14) r32.toNatClampNeg (((M 14) r32.toNatClampNeg) + ((F 30) - (F 29))))))) ∧ (¬ r39 = 0 → wX6_close (fun r43 F44 M44 => post r43 F44 M44) r32 F (va_up M 14 (upd (M 14) r32.toNatClampNeg (((M 14) r32.toNatClampNeg) + ((F 30) - (F 29))))))) 1 F (va_up M 14 (upd (M 14) r32.toNatClampNeg (((M 14) r32.toNatClampNeg) + ((F 30) - (F 29)))))) ∧ (¬ (F 28) ≤ 50 → post 103 F M)) ∧ (¬ ((M 18) r32.toNatClampNeg) = 0 → wX6_data_b77 post F M))) (F 27) F M
theorem kX6_data_b54 {post : Int32 → (Nat → Int32) → (Nat → Nat → Int32) → Prop} (C : x_C p s m args meth c cX6_data 2 (some .int) RX6 D N0 gp) {F : (Nat → Int32)} {M : (Nat → Nat → Int32)} {H : Heap} {locs : List Loc} {ls : Array Slot} (hR : x_R D s N0 (fixM ad F M ++ XF) h H) (hS : va_S (x_A N0) s.heap H locs) (hl : lv_has ls 2 [(0, .ref (ad 1000))]) (hw : wX6_data_b54 post F M) : W p l e rmX6_data s m args below meth c H locs 0 0 (MQ below (x_Qc D N0 (x_Vi (qMi ad XF h post))) args s 0 0 (x_A N0)) (F0 m 54 ls []) := by
  obtain ⟨⟨hx, hb, hml, hown, hts⟩, hr, hlocks, hG, hN⟩ := id C
  unfold wX6_data_b54 at hw
  refine lv_aload_n hx hb dX6_data_54 rfl (lv_at hl 0 rfl) ?_
  refine lv_aload_n hx hb dX6_data_55 rfl (lv_at hl 0 rfl) ?_
  refine x_get (ci := 5) (Cn := RX6) (T := TX6) (N := 55) (v := .int (F 27)) C (hR.rdX 0 rfl) rfl in_X6 27 (by decide) q1206 (fun _ h9 => h9) rfl dX6_data_56 ?_
  refine x_calli0 (x_runV (n := 1) (As := [.int (F 27)]) C hR hS (kX6_slotOf l D N0 gp ad XF _ (F 27) F M _ hw) (lw_V q1427 q1429 qs55 q104 q1430) rfl rfl (by decide +kernel) ⟨Nat.le_of_ble_eq_true rfl, Nat.le_of_ble_eq_true rfl⟩ (x_recv C (hR.rdX 0 rfl) rfl) rfl hl.1 rfl (Nat.le_of_ble_eq_true rfl) dX6_data_59 ⟨Nat.le_refl _, Nat.le_refl _⟩) hS (fun r32 X1 h1 H locs hq hR hS => ?_)
  obtain ⟨e1, e2, hw⟩ := hq
  rw [e1, e2] at hR
  refine lv_istore_n (lv' := [(1, .int r32), (0, .ref (ad 1000))]) hx hb dX6_data_62 rfl hl (by decide) rfl (fun ls hl => ?_)
  refine lv_iload_n hx hb dX6_data_63 rfl (lv_at hl 0 rfl) ?_
  refine lv_iconst (v := -1) hx hb dX6_data_64 (by decide) ?_
  refine lv_icmp_eq (tgt := 77) hx hb dX6_data_65 (by decide) (fun c33 => ?_) (fun c33 => ?_)
  · have hw := hw.1 c33
    exact kX6_data_b77 C hR hS (lv_sub hl [] rfl) hw
  · have hw := hw.2 c33
    refine lv_aload_n hx hb dX6_data_68 rfl (lv_at hl 1 rfl) ?_
    refine x_get (ci := 5) (Cn := RX6) (T := TX6) (N := 55) (v := .ref (ad 18)) C (hR.rdX 0 rfl) rfl in_X6 18 (by decide) q1197 (fun _ h9 => h9) rfl dX6_data_69 ?_
    refine lv_iload_n hx hb dX6_data_72 rfl (lv_at hl 0 rfl) ?_
    obtain ⟨b34, hw⟩ := hw
    refine x_zald (n := 4) (f := (M 18)) C (hR.rdX 15 rfl) b34 dX6_data_73 ?_
    refine lv_if_eq (tgt := 80) hx hb dX6_data_74 (by decide) (fun c35 => ?_) (fun c35 => ?_)
    · have hw := hw.1 c35
      refine lv_aload_n hx hb dX6_data_80 rfl (lv_at hl 1 rfl) ?_
      refine x_get (ci := 5) (Cn := RX6) (T := TX6) (N := 55) (v := .int (F 28)) C (hR.rdX 0 rfl) rfl in_X6 28 (by decide) q1207 (fun _ h9 => h9) rfl dX6_data_81 ?_
      refine lv_bipush (v := 50) hx hb dX6_data_84 (by decide) ?_
      refine lv_icmp_le (tgt := 92) hx hb dX6_data_86 (by decide) (fun c36 => ?_) (fun c36 => ?_)
      · have hw := hw.1 c36
        refine lv_aload_n hx hb dX6_data_92 rfl (lv_at hl 1 rfl) ?_
        refine x_get (ci := 5) (Cn := RX6) (T := TX6) (N := 55) (v := .ref (ad 14)) C (hR.rdX 0 rfl) rfl in_X6 14 (by decide) q1193 (fun _ h9 => h9) rfl dX6_data_93 ?_
        refine lv_iload_n hx hb dX6_data_96 rfl (lv_at hl 0 rfl) ?_
        refine lv_dup2_11 hx hb dX6_data_97 rfl rfl ?_
        obtain ⟨b37, hw⟩ := hw
        refine x_iald (n := 4) (f := (M 14)) C (hR.rdX 11 rfl) b37 dX6_data_98 ?_
        refine lv_aload_n hx hb dX6_data_99 rfl (lv_at hl 1 rfl) ?_
        refine x_get (ci := 5) (Cn := RX6) (T := TX6) (N := 55) (v := .int (F 30)) C (hR.rdX 0 rfl) rfl in_X6 30 (by decide) q1209 (fun _ h9 => h9) rfl dX6_data_100 ?_
        refine lv_aload_n hx hb dX6_data_103 rfl (lv_at hl 1 rfl) ?_
        refine x_get (ci := 5) (Cn := RX6) (T := TX6) (N := 55) (v := .int (F 29)) C (hR.rdX 0 rfl) rfl in_X6 29 (by decide) q1208 (fun _ h9 => h9) rfl dX6_data_104 ?_
        refine lv_isub hx hb dX6_data_107 ?_
        refine lv_iadd hx hb dX6_data_108 ?_
        obtain ⟨b38, hw⟩ := hw
        refine x_iastX (n := 4) (f := (M 14)) C hR hS 11 rfl b38 (sM_a14 ..) dX6_data_109 (fun H locs hR hS => ?_)
        refine lv_aload_n hx hb dX6_data_110 rfl (lv_at hl 1 rfl) ?_
        refine lv_iconst (v := 1) hx hb dX6_data_111 (by decide) ?_
        refine x_calli0 (x_runV (n := 1) (As := [.int 1]) C hR hS (kX6_has l D N0 gp ad XF _ 1 F (va_up M 14 (upd (M 14) r32.toNatClampNeg (((M 14) r32.toNatClampNeg) + ((F 30) - (F 29))))) _ hw) (lw_V q1407 q1409 qs50 q104 q1410) rfl rfl (by decide +kernel) ⟨Nat.le_of_ble_eq_true rfl, Nat.le_of_ble_eq_true rfl⟩ (x_recv C (hR.rdX 0 rfl) rfl) rfl hl.1 rfl (Nat.le_of_ble_eq_true rfl) dX6_data_112 ⟨Nat.le_refl _, Nat.le_refl _⟩) hS (fun r39 X1 h1 H locs hq hR hS => ?_)
        obtain ⟨e1, e2, hw⟩ := hq
        rw [e1, e2] at hR
        refine lv_if_eq (tgt := 124) hx hb dX6_data_115 (by decide) (fun c40 => ?_) (fun c40 => ?_)
        · have hw := hw.1 c40
          refine lv_aload_n hx hb dX6_data_124 rfl (lv_at hl 1 rfl) ?_
          refine x_get (ci := 5) (Cn := RX6) (T := TX6) (N := 55) (v := .int (F 28)) C (hR.rdX 0 rfl) rfl in_X6 28 (by decide) q1207 (fun _ h9 => h9) rfl dX6_data_125 ?_
          refine lv_if_le (tgt := 143) hx hb dX6_data_128 (by decide) (fun c41 => ?_) (fun c41 => ?_)
          · have hw := hw.1 c41
            exact kX6_data_b143 C hR hS (lv_sub hl [] rfl) hw
          · have hw := hw.2 c41
            refine lv_aload_n hx hb dX6_data_131 rfl (lv_at hl 1 rfl) ?_
            refine lv_aload_n hx hb dX6_data_132 rfl (lv_at hl 1 rfl) ?_
            refine x_get (ci := 5) (Cn := RX6) (T := TX6) (N := 55) (v := .int (F 27)) C (hR.rdX 0 rfl) rfl in_X6 27 (by decide) q1206 (fun _ h9 => h9) rfl dX6_data_133 ?_
            refine lv_aload_n hx hb dX6_data_136 rfl (lv_at hl 1 rfl) ?_
            refine x_get (ci := 5) (Cn := RX6) (T := TX6) (N := 55) (v := .int (F 28)) C (hR.rdX 0 rfl) rfl in_X6 28 (by decide) q1207 (fun _ h9 => h9) rfl dX6_data_137 ?_
            refine x_callv0 (x_runV (n := 2) (As := [.int (F 27), .int (F 28)]) C hR hS (kX6_credit l D N0 gp ad XF _ (F 27) (F 28) F (va_up M 14 (upd (M 14) r32.toNatClampNeg (((M 14) r32.toNatClampNeg) + ((F 30) - (F 29))))) _ hw) (lw_V q1423 q1425 qs54 q104 q1426) rfl rfl (by decide +kernel) ⟨Nat.le_of_ble_eq_true rfl, Nat.le_of_ble_eq_true rfl⟩ (x_recv C (hR.rdX 0 rfl) rfl) rfl hl.1 rfl (Nat.le_of_ble_eq_true rfl) dX6_data_140 ⟨Nat.le_refl _, Nat.le_refl _⟩) hS (fun X1 h1 H locs hq hR hS => ?_)
            obtain ⟨F42, M42, e1, e2, hw⟩ := hq
            rw [e1, e2] at hR
            exact kX6_data_b143 C hR hS (lv_sub hl [] rfl) hw
        · have hw := hw.2 c40
          refine lv_aload_n hx hb dX6_data_118 rfl (lv_at hl 1 rfl) ?_
          refine lv_iload_n hx hb dX6_data_119 rfl (lv_at hl 0 rfl) ?_
          refine x_calli0 (x_runV (n := 1) (As := [.int r32]) C hR hS (kX6_close l D N0 gp ad XF _ r32 F (va_up M 14 (upd (M 14) r32.toNatClampNeg (((M 14) r32.toNatClampNeg) + ((F 30) - (F 29))))) _ hw) (lw_V q1431 q1433 qs56 q104 q1434) rfl rfl (by decide +kernel) ⟨Nat.le_of_ble_eq_true rfl, Nat.le_of_ble_eq_true rfl⟩ (x_recv C (hR.rdX 0 rfl) rfl) rfl hl.1 rfl (Nat.le_of_ble_eq_true rfl) dX6_data_120 ⟨Nat.le_refl _, Nat.le_refl _⟩) hS (fun r43 X1 h1 H locs hq hR hS => ?_)
          obtain ⟨F44, M44, e1, e2, hw⟩ := hq
          rw [e1, e2] at hR
          exact x_endi C hR hS ⟨_, rfl, ⟨_, _, rfl, rfl, hw⟩⟩ (Nat.le_refl _) (Nat.le_refl _) dX6_data_123
      · have hw := hw.2 c36
        refine lv_bipush (v := 103) hx hb dX6_data_89 (by decide) ?_
        exact x_endi C hR hS ⟨_, rfl, ⟨_, _, rfl, rfl, hw⟩⟩ (Nat.le_refl _) (Nat.le_refl _) dX6_data_91
    · have hw := hw.2 c35
      exact kX6_data_b77 C hR hS (lv_sub hl [] rfl) hw
end
def wX6_data (post : Int32 → (Nat → Int32) → (Nat → Nat → Int32) → Prop)  (F : (Nat → Int32)) (M : (Nat → Nat → Int32)) : Prop :=
  ((F 27) = 0 → wX6_data_b25 post F M) ∧ (¬ (F 27) = 0 → wX6_idle (fun r24 => (r24 = 0 → wX6_unpad (fun r26 F27 M27 => (r26 = 0 → wX6_data_b25 post F27 M27) ∧ (¬ r26 = 0 → ((F27 28) ≤ 80 → ((F27 28) ≤ 0 → wX6_data_b54 post F27 M27) ∧ (¬ (F27 28) ≤ 0 → wX6_credit (fun F31 M31 => wX6_data_b54 post F31 M31) 0 (F27 28) F27 M27)) ∧ (¬ (F27 28) ≤ 80 → post 3 F27 M27))) F M) ∧ (¬ r24 = 0 → wX6_data_b25 post F M)) (F 27) F M)
theorem kX6_data (l : Launch) (D : va_G) (N0 : Nat) (gp : Nat → Nat) (ad : Nat → Nat) (XF : x_X) (h : x_H)  (F : (Nat → Int32)) (M : (Nat → Nat → Int32)) (post : Int32 → (Nat → Int32) → (Nat → Nat → Int32) → Prop) (hw : wX6_data post  F M) : Met l yX6_data (ws_ yX6_data cX6_data 2 (some .int)) rmX6_data (x_Pc D N0 gp (fixM ad F M ++ XF) h [.ref (ad 1000)]) (x_Qc D N0 (x_Vi (qMi ad XF h post))) 0 0 (x_A N0) := by
  refine x_start (lv := [(0, .ref (ad 1000))]) (by decide) rfl (Nat.le_of_ble_eq_true rfl) rfl ?_
  intro p e s m below meth c C hR ls hl
  have hS : va_S (x_A N0) s.heap s.heap [] := va_S.rf
  obtain ⟨⟨hx, hb, hml, hown, hts⟩, hr, hlocks, hG, hN⟩ := id C
  unfold wX6_data at hw
  refine lv_aload_n hx hb dX6_data_0 rfl (lv_at hl 0 rfl) ?_
  refine x_get (ci := 5) (Cn := RX6) (T := TX6) (N := 55) (v := .int (F 27)) C (hR.rdX 0 rfl) rfl in_X6 27 (by decide) q1206 (fun _ h9 => h9) rfl dX6_data_1 ?_
  refine lv_if_eq (tgt := 25) hx hb dX6_data_4 (by decide) (fun c23 => ?_) (fun c23 => ?_)
  · have hw := hw.1 c23
    exact kX6_data_b25 C hR hS (lv_sub hl [] rfl) hw
  · have hw := hw.2 c23
    refine lv_aload_n hx hb dX6_data_7 rfl (lv_at hl 0 rfl) ?_
    refine lv_aload_n hx hb dX6_data_8 rfl (lv_at hl 0 rfl) ?_
    refine x_get (ci := 5) (Cn := RX6) (T := TX6) (N := 55) (v := .int (F 27)) C (hR.rdX 0 rfl) rfl in_X6 27 (by decide) q1206 (fun _ h9 => h9) rfl dX6_data_9 ?_
    refine x_calli0 (x_runV (n := 1) (As := [.int (F 27)]) C hR hS (kX6_idle l D N0 gp ad XF _ (F 27) F M _ hw) (lw_V q1415 q1417 qs52 q104 q1418) rfl rfl (by decide +kernel) ⟨Nat.le_of_ble_eq_true rfl, Nat.le_of_ble_eq_true rfl⟩ (x_recv C (hR.rdX 0 rfl) rfl) rfl hl.1 rfl (Nat.le_of_ble_eq_true rfl) dX6_data_12 ⟨Nat.le_refl _, Nat.le_refl _⟩) hS (fun r24 X1 h1 H locs hq hR hS => ?_)
    obtain ⟨e1, e2, hw⟩ := hq
    rw [e1, e2] at hR
    refine lv_if_ne (tgt := 25) hx hb dX6_data_15 (by decide) (fun c25 => ?_) (fun c25 => ?_)
    · have hw := hw.2 c25
      exact kX6_data_b25 C hR hS (lv_sub hl [] rfl) hw
    · have hw := hw.1 c25
      refine lv_aload_n hx hb dX6_data_18 rfl (lv_at hl 0 rfl) ?_
      refine x_calli0 (x_runV (n := 0) (As := []) C hR hS (kX6_unpad l D N0 gp ad XF _ F M _ hw) (lw_V q1419 q1421 qs53 q104 q1422) rfl rfl (by decide +kernel) ⟨Nat.le_of_ble_eq_true rfl, Nat.le_of_ble_eq_true rfl⟩ (x_recv C (hR.rdX 0 rfl) rfl) rfl hl.1 rfl (Nat.le_of_ble_eq_true rfl) dX6_data_19 ⟨Nat.le_refl _, Nat.le_refl _⟩) hS (fun r26 X1 h1 H locs hq hR hS => ?_)
      obtain ⟨F27, M27, e1, e2, hw⟩ := hq
      rw [e1, e2] at hR
      refine lv_if_ne (tgt := 27) hx hb dX6_data_22 (by decide) (fun c28 => ?_) (fun c28 => ?_)
      · have hw := hw.2 c28
        refine lv_aload_n hx hb dX6_data_27 rfl (lv_at hl 0 rfl) ?_
        refine x_get (ci := 5) (Cn := RX6) (T := TX6) (N := 55) (v := .int (F27 28)) C (hR.rdX 0 rfl) rfl in_X6 28 (by decide) q1207 (fun _ h9 => h9) rfl dX6_data_28 ?_
        refine lv_bipush (v := 80) hx hb dX6_data_31 (by decide) ?_
        refine lv_icmp_le (tgt := 38) hx hb dX6_data_33 (by decide) (fun c29 => ?_) (fun c29 => ?_)
        · have hw := hw.1 c29
          refine lv_aload_n hx hb dX6_data_38 rfl (lv_at hl 0 rfl) ?_
          refine x_get (ci := 5) (Cn := RX6) (T := TX6) (N := 55) (v := .int (F27 28)) C (hR.rdX 0 rfl) rfl in_X6 28 (by decide) q1207 (fun _ h9 => h9) rfl dX6_data_39 ?_
          refine lv_if_le (tgt := 54) hx hb dX6_data_42 (by decide) (fun c30 => ?_) (fun c30 => ?_)
          · have hw := hw.1 c30
            exact kX6_data_b54 C hR hS (lv_sub hl [0] rfl) hw
          · have hw := hw.2 c30
            refine lv_aload_n hx hb dX6_data_45 rfl (lv_at hl 0 rfl) ?_
            refine lv_iconst (v := 0) hx hb dX6_data_46 (by decide) ?_
            refine lv_aload_n hx hb dX6_data_47 rfl (lv_at hl 0 rfl) ?_
            refine x_get (ci := 5) (Cn := RX6) (T := TX6) (N := 55) (v := .int (F27 28)) C (hR.rdX 0 rfl) rfl in_X6 28 (by decide) q1207 (fun _ h9 => h9) rfl dX6_data_48 ?_
            refine x_callv0 (x_runV (n := 2) (As := [.int 0, .int (F27 28)]) C hR hS (kX6_credit l D N0 gp ad XF _ 0 (F27 28) F27 M27 _ hw) (lw_V q1423 q1425 qs54 q104 q1426) rfl rfl (by decide +kernel) ⟨Nat.le_of_ble_eq_true rfl, Nat.le_of_ble_eq_true rfl⟩ (x_recv C (hR.rdX 0 rfl) rfl) rfl hl.1 rfl (Nat.le_of_ble_eq_true rfl) dX6_data_51 ⟨Nat.le_refl _, Nat.le_refl _⟩) hS (fun X1 h1 H locs hq hR hS => ?_)
            obtain ⟨F31, M31, e1, e2, hw⟩ := hq
            rw [e1, e2] at hR
            exact kX6_data_b54 C hR hS (lv_sub hl [0] rfl) hw
        · have hw := hw.2 c29
          refine lv_iconst (v := 3) hx hb dX6_data_36 (by decide) ?_
          exact x_endi C hR hS ⟨_, rfl, ⟨_, _, rfl, rfl, hw⟩⟩ (Nat.le_refl _) (Nat.le_refl _) dX6_data_37
      · have hw := hw.1 c28
        exact kX6_data_b25 C hR hS (lv_sub hl [] rfl) hw
/-- PageServerModel.next()I -/
abbrev rmX6_next : Room := { frames := 0, cells := 0, slots := 0, locals := 0 }
section
variable {p : Program} {l : Launch} {e : Env} {s : State} {m : MethodId} {args : Array Value} {below : List Frame} {meth : Method} {c : Code} {D : va_G} {N0 : Nat} {gp : Nat → Nat} {ad : Nat → Nat} {XF : x_X} {h : x_H}
def wX6_next_b59 (post : Int32 → (Nat → Int32) → (Nat → Nat → Int32) → Prop)  (F : (Nat → Int32)) (M : (Nat → Nat → Int32)) (s0 : Int32) : Prop :=
  post s0 F M
theorem kX6_next_b59 {post : Int32 → (Nat → Int32) → (Nat → Nat → Int32) → Prop} (C : x_C p s m args meth c cX6_next 1 (some .int) RX6 D N0 gp) {F : (Nat → Int32)} {M : (Nat → Nat → Int32)} {s0 : Int32} {H : Heap} {locs : List Loc} {ls : Array Slot} (hR : x_R D s N0 (fixM ad F M ++ XF) h H) (hS : va_S (x_A N0) s.heap H locs) (hl : lv_has ls 1 []) (hw : wX6_next_b59 post F M s0) : W p l e rmX6_next s m args below meth c H locs 0 0 (MQ below (x_Qc D N0 (x_Vi (qMi ad XF h post))) args s 0 0 (x_A N0)) (F0 m 59 ls [.int s0]) := by
  obtain ⟨⟨hx, hb, hml, hown, hts⟩, hr, hlocks, hG, hN⟩ := id C
  unfold wX6_next_b59 at hw
  exact x_endi C hR hS ⟨_, rfl, ⟨_, _, rfl, rfl, hw⟩⟩ (Nat.le_refl _) (Nat.le_refl _) dX6_next_59
def wX6_next_b24 (post : Int32 → (Nat → Int32) → (Nat → Nat → Int32) → Prop)  (F : (Nat → Int32)) (M : (Nat → Nat → Int32)) (s0 : Int32) : Prop :=
  x_bit s0 ∧ (s0 = 0 → wX6_next_b59 post (upd (upd F 37 s0) 36 ((F 36) + 1)) M 0) ∧ (¬ s0 = 0 → vp_in (((F 36) + 1) - 1) 100 ∧ wX6_next_b59 post (upd (upd F 37 s0) 36 ((F 36) + 1)) M ((M 35) (((F 36) + 1) - 1).toNatClampNeg))
theorem kX6_next_b24 {post : Int32 → (Nat → Int32) → (Nat → Nat → Int32) → Prop} (C : x_C p s m args meth c cX6_next 1 (some .int) RX6 D N0 gp) {F : (Nat → Int32)} {M : (Nat → Nat → Int32)} {s0 : Int32} {H : Heap} {locs : List Loc} {ls : Array Slot} (hR : x_R D s N0 (fixM ad F M ++ XF) h H) (hS : va_S (x_A N0) s.heap H locs) (hl : lv_has ls 1 [(0, .ref (ad 1000))]) (hw : wX6_next_b24 post F M s0) : W p l e rmX6_next s m args below meth c H locs 0 0 (MQ below (x_Qc D N0 (x_Vi (qMi ad XF h post))) args s 0 0 (x_A N0)) (F0 m 24 ls [.int s0, .ref (ad 1000)]) := by
  obtain ⟨⟨hx, hb, hml, hown, hts⟩, hr, hlocks, hG, hN⟩ := id C
  unfold wX6_next_b24 at hw
  obtain ⟨z8, hw⟩ := hw
  refine x_putX (ci := 5) (Cn := RX6) (T := TX6) (N := 55) (v := .int s0) C hR hS 0 rfl rfl in_X6 tyX6_ok nmX6 37 (by decide) q1216 (fun _ h9 => h9) rfl (x_bitN z8) (x_bitF z8) (Nat.le_of_ble_eq_true rfl) (sM_f37 ..) dX6_next_24 (fun H locs hR hS => ?_)
  refine lv_aload_n hx hb dX6_next_27 rfl (lv_at hl 0 rfl) ?_
  refine lv_dup hx hb dX6_next_28 rfl ?_
  refine x_get (ci := 5) (Cn := RX6) (T := TX6) (N := 55) (v := .int (F 36)) C (hR.rdX 0 rfl) rfl in_X6 36 (by decide) q1215 (fun _ h9 => h9) rfl dX6_next_29 ?_
  refine lv_iconst (v := 1) hx hb dX6_next_32 (by decide) ?_
  refine lv_iadd hx hb dX6_next_33 ?_
  refine x_putX (ci := 5) (Cn := RX6) (T := TX6) (N := 55) (v := .int ((F 36) + 1)) C hR hS 0 rfl rfl in_X6 tyX6_ok nmX6 36 (by decide) q1215 (fun _ h9 => h9) rfl rfl rfl (Nat.le_of_ble_eq_true rfl) (sM_f36 ..) dX6_next_34 (fun H locs hR hS => ?_)
  refine lv_aload_n hx hb dX6_next_37 rfl (lv_at hl 0 rfl) ?_
  refine x_get (ci := 5) (Cn := RX6) (T := TX6) (N := 55) (v := .int s0) C (hR.rdX 0 rfl) rfl in_X6 37 (by decide) q1216 (fun _ h9 => h9) rfl dX6_next_38 ?_
  refine lv_if_eq (tgt := 58) hx hb dX6_next_41 (by decide) (fun c9 => ?_) (fun c9 => ?_)
  · have hw := hw.1 c9
    refine lv_iconst (v := 0) hx hb dX6_next_58 (by decide) ?_
    exact kX6_next_b59 C hR hS (lv_sub hl [] rfl) hw
  · have hw := hw.2 c9
    refine lv_aload_n hx hb dX6_next_44 rfl (lv_at hl 0 rfl) ?_
    refine x_get (ci := 5) (Cn := RX6) (T := TX6) (N := 55) (v := .ref (ad 35)) C (hR.rdX 0 rfl) rfl in_X6 35 (by decide) q1214 (fun _ h9 => h9) rfl dX6_next_45 ?_
    refine lv_aload_n hx hb dX6_next_48 rfl (lv_at hl 0 rfl) ?_
    refine x_get (ci := 5) (Cn := RX6) (T := TX6) (N := 55) (v := .int ((F 36) + 1)) C (hR.rdX 0 rfl) rfl in_X6 36 (by decide) q1215 (fun _ h9 => h9) rfl dX6_next_49 ?_
    refine lv_iconst (v := 1) hx hb dX6_next_52 (by decide) ?_
    refine lv_isub hx hb dX6_next_53 ?_
    obtain ⟨b10, hw⟩ := hw
    refine x_iald (n := 100) (f := (M 35)) C (hR.rdX 20 rfl) b10 dX6_next_54 ?_
    refine lv_goto (tgt := 59) hx hb dX6_next_55 (by decide) ?_
    exact kX6_next_b59 C hR hS (lv_sub hl [] rfl) hw
def wX6_next_b23 (post : Int32 → (Nat → Int32) → (Nat → Nat → Int32) → Prop)  (F : (Nat → Int32)) (M : (Nat → Nat → Int32)) : Prop :=
  wX6_next_b24 post F M 0
theorem kX6_next_b23 {post : Int32 → (Nat → Int32) → (Nat → Nat → Int32) → Prop} (C : x_C p s m args meth c cX6_next 1 (some .int) RX6 D N0 gp) {F : (Nat → Int32)} {M : (Nat → Nat → Int32)} {H : Heap} {locs : List Loc} {ls : Array Slot} (hR : x_R D s N0 (fixM ad F M ++ XF) h H) (hS : va_S (x_A N0) s.heap H locs) (hl : lv_has ls 1 [(0, .ref (ad 1000))]) (hw : wX6_next_b23 post F M) : W p l e rmX6_next s m args below meth c H locs 0 0 (MQ below (x_Qc D N0 (x_Vi (qMi ad XF h post))) args s 0 0 (x_A N0)) (F0 m 23 ls [.ref (ad 1000)]) := by
  obtain ⟨⟨hx, hb, hml, hown, hts⟩, hr, hlocks, hG, hN⟩ := id C
  unfold wX6_next_b23 at hw
  refine lv_iconst (v := 0) hx hb dX6_next_23 (by decide) ?_
  exact kX6_next_b24 C hR hS (lv_sub hl [0] rfl) hw
end
def wX6_next (post : Int32 → (Nat → Int32) → (Nat → Nat → Int32) → Prop)  (F : (Nat → Int32)) (M : (Nat → Nat → Int32)) : Prop :=
  ((F 37) = 0 → wX6_next_b23 post F M) ∧ (¬ (F 37) = 0 → ((F 34) ≤ (F 36) → wX6_next_b23 post F M) ∧ (¬ (F 34) ≤ (F 36) → wX6_next_b24 post F M 1))
theorem kX6_next (l : Launch) (D : va_G) (N0 : Nat) (gp : Nat → Nat) (ad : Nat → Nat) (XF : x_X) (h : x_H)  (F : (Nat → Int32)) (M : (Nat → Nat → Int32)) (post : Int32 → (Nat → Int32) → (Nat → Nat → Int32) → Prop) (hw : wX6_next post  F M) : Met l yX6_next (ws_ yX6_next cX6_next 1 (some .int)) rmX6_next (x_Pc D N0 gp (fixM ad F M ++ XF) h [.ref (ad 1000)]) (x_Qc D N0 (x_Vi (qMi ad XF h post))) 0 0 (x_A N0) := by
  refine x_start (lv := [(0, .ref (ad 1000))]) (by decide) rfl (Nat.le_of_ble_eq_true rfl) rfl ?_
  intro p e s m below meth c C hR ls hl
  have hS : va_S (x_A N0) s.heap s.heap [] := va_S.rf
  obtain ⟨⟨hx, hb, hml, hown, hts⟩, hr, hlocks, hG, hN⟩ := id C
  unfold wX6_next at hw
  refine lv_aload_n hx hb dX6_next_0 rfl (lv_at hl 0 rfl) ?_
  refine lv_aload_n hx hb dX6_next_1 rfl (lv_at hl 0 rfl) ?_
  refine x_get (ci := 5) (Cn := RX6) (T := TX6) (N := 55) (v := .int (F 37)) C (hR.rdX 0 rfl) rfl in_X6 37 (by decide) q1216 (fun _ h9 => h9) rfl dX6_next_2 ?_
  refine lv_if_eq (tgt := 23) hx hb dX6_next_5 (by decide) (fun c6 => ?_) (fun c6 => ?_)
  · have hw := hw.1 c6
    exact kX6_next_b23 C hR hS (lv_sub hl [0] rfl) hw
  · have hw := hw.2 c6
    refine lv_aload_n hx hb dX6_next_8 rfl (lv_at hl 0 rfl) ?_
    refine x_get (ci := 5) (Cn := RX6) (T := TX6) (N := 55) (v := .int (F 36)) C (hR.rdX 0 rfl) rfl in_X6 36 (by decide) q1215 (fun _ h9 => h9) rfl dX6_next_9 ?_
    refine lv_aload_n hx hb dX6_next_12 rfl (lv_at hl 0 rfl) ?_
    refine x_get (ci := 5) (Cn := RX6) (T := TX6) (N := 55) (v := .int (F 34)) C (hR.rdX 0 rfl) rfl in_X6 34 (by decide) q1213 (fun _ h9 => h9) rfl dX6_next_13 ?_
    refine lv_icmp_ge (tgt := 23) hx hb dX6_next_16 (by decide) (fun c7 => ?_) (fun c7 => ?_)
    · have hw := hw.1 c7
      exact kX6_next_b23 C hR hS (lv_sub hl [0] rfl) hw
    · have hw := hw.2 c7
      refine lv_iconst (v := 1) hx hb dX6_next_19 (by decide) ?_
      refine lv_goto (tgt := 24) hx hb dX6_next_20 (by decide) ?_
      exact kX6_next_b24 C hR hS (lv_sub hl [0] rfl) hw
/-- PageServerModel.copy(II)V -/
abbrev rmX6_copy : Room := { frames := 0, cells := 0, slots := 0, locals := 0 }
section
variable {p : Program} {l : Launch} {e : Env} {s : State} {m : MethodId} {args : Array Value} {below : List Frame} {meth : Method} {c : Code} {D : va_G} {N0 : Nat} {gp : Nat → Nat} {ad : Nat → Nat} {XF : x_X} {h : x_H}
def wX6_copy_b82 (post : (Nat → Int32) → (Nat → Nat → Int32) → Prop) (p1 : Int32) (p2 : Int32) (F : (Nat → Int32)) (M : (Nat → Nat → Int32)) : Prop :=
  post F M
theorem kX6_copy_b82 {post : (Nat → Int32) → (Nat → Nat → Int32) → Prop} {p1 : Int32} {p2 : Int32} (C : x_C p s m args meth c cX6_copy 4 none RX6 D N0 gp) {F : (Nat → Int32)} {M : (Nat → Nat → Int32)} {H : Heap} {locs : List Loc} {ls : Array Slot} (hR : x_R D s N0 (fixM ad F M ++ XF) h H) (hS : va_S (x_A N0) s.heap H locs) (hl : lv_has ls 4 []) (hw : wX6_copy_b82 post p1 p2 F M) : W p l e rmX6_copy s m args below meth c H locs 0 0 (MQ below (x_Qc D N0 (x_Vv (qMv ad XF h post))) args s 0 0 (x_A N0)) (F0 m 82 ls []) := by
  obtain ⟨⟨hx, hb, hml, hown, hts⟩, hr, hlocks, hG, hN⟩ := id C
  unfold wX6_copy_b82 at hw
  exact x_endv C hR hS ⟨rfl, ⟨_, _, rfl, rfl, hw⟩⟩ (Nat.le_refl _) (Nat.le_refl _) dX6_copy_82
def tX6_copy_b26 (post : (Nat → Int32) → (Nat → Nat → Int32) → Prop) (K26 : (Nat → Int32) → (Nat → Nat → Int32) → Int32 → Prop) (p1 : Int32) (p2 : Int32) (F : (Nat → Int32)) (M : (Nat → Nat → Int32)) (x3 : Int32) : Prop :=
  ((20 : Int32) ≤ x3 → wX6_copy_b82 post p1 p2 F M) ∧ (¬ (20 : Int32) ≤ x3 → vp_in (((20 : Int32) * p1) + x3) 340 ∧ vp_in (((20 : Int32) * p2) + x3) 340 ∧ vp_in (((20 : Int32) * p1) + x3) 340 ∧ vp_in (((20 : Int32) * p2) + x3) 340 ∧ K26 F (va_up (va_up M 9 (upd (M 9) (((20 : Int32) * p2) + x3).toNatClampNeg (vp_nar .char ((M 9) (((20 : Int32) * p1) + x3).toNatClampNeg)))) 11 (upd (M 11) (((20 : Int32) * p2) + x3).toNatClampNeg (vp_nar .char ((M 11) (((20 : Int32) * p1) + x3).toNatClampNeg)))) (x3 + 1))
def wX6_copy_b26 (post : (Nat → Int32) → (Nat → Nat → Int32) → Prop) (p1 : Int32) (p2 : Int32) : Nat → (Nat → Int32) → (Nat → Nat → Int32) → Int32 → Prop
  | 0 => fun _ _ _ => False
  | n + 1 => fun F M x3 => tX6_copy_b26 post (wX6_copy_b26 post p1 p2 n) p1 p2 F M x3
theorem kX6_copy_b26 {post : (Nat → Int32) → (Nat → Nat → Int32) → Prop} {p1 : Int32} {p2 : Int32} (C : x_C p s m args meth c cX6_copy 4 none RX6 D N0 gp) : ∀ (nn : Nat) (F : (Nat → Int32)) (M : (Nat → Nat → Int32)) (x3 : Int32) (H : Heap) (locs : List Loc) (ls : Array Slot), x_R D s N0 (fixM ad F M ++ XF) h H → va_S (x_A N0) s.heap H locs → lv_has ls 4 [(0, .ref (ad 1000)), (1, .int p1), (2, .int p2), (3, .int x3)] → wX6_copy_b26 post p1 p2 nn F M x3 → W p l e rmX6_copy s m args below meth c H locs 0 0 (MQ below (x_Qc D N0 (x_Vv (qMv ad XF h post))) args s 0 0 (x_A N0)) (F0 m 26 ls []) := by
  obtain ⟨⟨hx, hb, hml, hown, hts⟩, hr, hlocks, hG, hN⟩ := id C
  intro nn
  induction nn with
  | zero =>
    intro F M x3 H locs ls hR hS hl hw
    exact False.elim hw
  | succ nn ih =>
    intro F M x3 H locs ls hR hS hl hw
    have hK26 := ih
    have hw : tX6_copy_b26 post (wX6_copy_b26 post p1 p2 nn) p1 p2 F M x3 := hw
    unfold tX6_copy_b26 at hw
    refine lv_iload_n hx hb dX6_copy_26 rfl (lv_at hl 3 rfl) ?_
    refine lv_bipush (v := 20) hx hb dX6_copy_27 (by decide) ?_
    refine lv_icmp_ge (tgt := 82) hx hb dX6_copy_29 (by decide) (fun c16 => ?_) (fun c16 => ?_)
    · have hw := hw.1 c16
      exact kX6_copy_b82 C hR hS (lv_sub hl [] rfl) hw
    · have hw := hw.2 c16
      refine lv_aload_n hx hb dX6_copy_32 rfl (lv_at hl 0 rfl) ?_
      refine x_get (ci := 5) (Cn := RX6) (T := TX6) (N := 55) (v := .ref (ad 9)) C (hR.rdX 0 rfl) rfl in_X6 9 (by decide) q1188 (fun _ h9 => h9) rfl dX6_copy_33 ?_
      refine lv_bipush (v := 20) hx hb dX6_copy_36 (by decide) ?_
      refine lv_iload_n hx hb dX6_copy_38 rfl (lv_at hl 2 rfl) ?_
      refine lv_imul hx hb dX6_copy_39 ?_
      refine lv_iload_n hx hb dX6_copy_40 rfl (lv_at hl 3 rfl) ?_
      refine lv_iadd hx hb dX6_copy_41 ?_
      refine lv_aload_n hx hb dX6_copy_42 rfl (lv_at hl 0 rfl) ?_
      refine x_get (ci := 5) (Cn := RX6) (T := TX6) (N := 55) (v := .ref (ad 9)) C (hR.rdX 0 rfl) rfl in_X6 9 (by decide) q1188 (fun _ h9 => h9) rfl dX6_copy_43 ?_
      refine lv_bipush (v := 20) hx hb dX6_copy_46 (by decide) ?_
      refine lv_iload_n hx hb dX6_copy_48 rfl (lv_at hl 1 rfl) ?_
      refine lv_imul hx hb dX6_copy_49 ?_
      refine lv_iload_n hx hb dX6_copy_50 rfl (lv_at hl 3 rfl) ?_
      refine lv_iadd hx hb dX6_copy_51 ?_
      obtain ⟨b17, hw⟩ := hw
      refine x_cald (n := 340) (f := (M 9)) C (hR.rdX 6 rfl) b17 dX6_copy_52 ?_
      obtain ⟨b18, hw⟩ := hw
      refine x_castX (n := 340) (f := (M 9)) C hR hS 6 rfl b18 (sM_a9 ..) dX6_copy_53 (fun H locs hR hS => ?_)
      refine lv_aload_n hx hb dX6_copy_54 rfl (lv_at hl 0 rfl) ?_
      refine x_get (ci := 5) (Cn := RX6) (T := TX6) (N := 55) (v := .ref (ad 11)) C (hR.rdX 0 rfl) rfl in_X6 11 (by decide) q1190 (fun _ h9 => h9) rfl dX6_copy_55 ?_
      refine lv_bipush (v := 20) hx hb dX6_copy_58 (by decide) ?_
      refine lv_iload_n hx hb dX6_copy_60 rfl (lv_at hl 2 rfl) ?_
      refine lv_imul hx hb dX6_copy_61 ?_
      refine lv_iload_n hx hb dX6_copy_62 rfl (lv_at hl 3 rfl) ?_
      refine lv_iadd hx hb dX6_copy_63 ?_
      refine lv_aload_n hx hb dX6_copy_64 rfl (lv_at hl 0 rfl) ?_
      refine x_get (ci := 5) (Cn := RX6) (T := TX6) (N := 55) (v := .ref (ad 11)) C (hR.rdX 0 rfl) rfl in_X6 11 (by decide) q1190 (fun _ h9 => h9) rfl dX6_copy_65 ?_
      refine lv_bipush (v := 20) hx hb dX6_copy_68 (by decide) ?_
      refine lv_iload_n hx hb dX6_copy_70 rfl (lv_at hl 1 rfl) ?_
      refine lv_imul hx hb dX6_copy_71 ?_
      refine lv_iload_n hx hb dX6_copy_72 rfl (lv_at hl 3 rfl) ?_
      refine lv_iadd hx hb dX6_copy_73 ?_
      obtain ⟨b19, hw⟩ := hw
      refine x_cald (n := 340) (f := (M 11)) C (hR.rdX 8 rfl) b19 dX6_copy_74 ?_
      obtain ⟨b20, hw⟩ := hw
      refine x_castX (n := 340) (f := (M 11)) C hR hS 8 rfl b20 (sM_a11 ..) dX6_copy_75 (fun H locs hR hS => ?_)
      refine lv_iinc (v := x3 + 1) (lv' := [(3, .int (x3 + 1)), (0, .ref (ad 1000)), (1, .int p1), (2, .int p2)]) hx hb dX6_copy_76 hl (k := 3) rfl (x_inc 1 1 (by decide)) (by decide) rfl (fun ls hl => ?_)
      refine lv_goto (tgt := 26) hx hb dX6_copy_79 (by decide) ?_
      exact hK26 _ _ _ _ _ _ hR hS (lv_sub hl [1, 2, 3, 0] rfl) hw
end
def wX6_copy (post : (Nat → Int32) → (Nat → Nat → Int32) → Prop) (p1 : Int32) (p2 : Int32) (F : (Nat → Int32)) (M : (Nat → Nat → Int32)) : Prop :=
  vp_in p1 17 ∧ vp_in p2 17 ∧ vp_in p1 17 ∧ vp_in p2 17 ∧ ∃ n15 : Nat, wX6_copy_b26 post p1 p2 n15 F (va_up (va_up M 8 (upd (M 8) p2.toNatClampNeg ((M 8) p1.toNatClampNeg))) 10 (upd (M 10) p2.toNatClampNeg ((M 10) p1.toNatClampNeg))) 0
theorem kX6_copy (l : Launch) (D : va_G) (N0 : Nat) (gp : Nat → Nat) (ad : Nat → Nat) (XF : x_X) (h : x_H) (p1 : Int32) (p2 : Int32) (F : (Nat → Int32)) (M : (Nat → Nat → Int32)) (post : (Nat → Int32) → (Nat → Nat → Int32) → Prop) (hw : wX6_copy post p1 p2 F M) : Met l yX6_copy (ws_ yX6_copy cX6_copy 4 none) rmX6_copy (x_Pc D N0 gp (fixM ad F M ++ XF) h [.ref (ad 1000), .int p1, .int p2]) (x_Qc D N0 (x_Vv (qMv ad XF h post))) 0 0 (x_A N0) := by
  refine x_start (lv := [(0, .ref (ad 1000)), (1, .int p1), (2, .int p2)]) (by decide) rfl (Nat.le_of_ble_eq_true rfl) rfl ?_
  intro p e s m below meth c C hR ls hl
  have hS : va_S (x_A N0) s.heap s.heap [] := va_S.rf
  obtain ⟨⟨hx, hb, hml, hown, hts⟩, hr, hlocks, hG, hN⟩ := id C
  unfold wX6_copy at hw
  refine lv_aload_n hx hb dX6_copy_0 rfl (lv_at hl 0 rfl) ?_
  refine x_get (ci := 5) (Cn := RX6) (T := TX6) (N := 55) (v := .ref (ad 8)) C (hR.rdX 0 rfl) rfl in_X6 8 (by decide) q1187 (fun _ h9 => h9) rfl dX6_copy_1 ?_
  refine lv_iload_n hx hb dX6_copy_4 rfl (lv_at hl 2 rfl) ?_
  refine lv_aload_n hx hb dX6_copy_5 rfl (lv_at hl 0 rfl) ?_
  refine x_get (ci := 5) (Cn := RX6) (T := TX6) (N := 55) (v := .ref (ad 8)) C (hR.rdX 0 rfl) rfl in_X6 8 (by decide) q1187 (fun _ h9 => h9) rfl dX6_copy_6 ?_
  refine lv_iload_n hx hb dX6_copy_9 rfl (lv_at hl 1 rfl) ?_
  obtain ⟨b11, hw⟩ := hw
  refine x_iald (n := 17) (f := (M 8)) C (hR.rdX 5 rfl) b11 dX6_copy_10 ?_
  obtain ⟨b12, hw⟩ := hw
  refine x_iastX (n := 17) (f := (M 8)) C hR hS 5 rfl b12 (sM_a8 ..) dX6_copy_11 (fun H locs hR hS => ?_)
  refine lv_aload_n hx hb dX6_copy_12 rfl (lv_at hl 0 rfl) ?_
  refine x_get (ci := 5) (Cn := RX6) (T := TX6) (N := 55) (v := .ref (ad 10)) C (hR.rdX 0 rfl) rfl in_X6 10 (by decide) q1189 (fun _ h9 => h9) rfl dX6_copy_13 ?_
  refine lv_iload_n hx hb dX6_copy_16 rfl (lv_at hl 2 rfl) ?_
  refine lv_aload_n hx hb dX6_copy_17 rfl (lv_at hl 0 rfl) ?_
  refine x_get (ci := 5) (Cn := RX6) (T := TX6) (N := 55) (v := .ref (ad 10)) C (hR.rdX 0 rfl) rfl in_X6 10 (by decide) q1189 (fun _ h9 => h9) rfl dX6_copy_18 ?_
  refine lv_iload_n hx hb dX6_copy_21 rfl (lv_at hl 1 rfl) ?_
  obtain ⟨b13, hw⟩ := hw
  refine x_iald (n := 17) (f := (M 10)) C (hR.rdX 7 rfl) b13 dX6_copy_22 ?_
  obtain ⟨b14, hw⟩ := hw
  refine x_iastX (n := 17) (f := (M 10)) C hR hS 7 rfl b14 (sM_a10 ..) dX6_copy_23 (fun H locs hR hS => ?_)
  refine lv_iconst (v := 0) hx hb dX6_copy_24 (by decide) ?_
  refine lv_istore_n (lv' := [(3, .int 0), (0, .ref (ad 1000)), (1, .int p1), (2, .int p2)]) hx hb dX6_copy_25 rfl hl (by decide) rfl (fun ls hl => ?_)
  obtain ⟨n15, hw⟩ := hw
  exact kX6_copy_b26 C n15 _ _ _ _ _ _ hR hS (lv_sub hl [1, 2, 3, 0] rfl) hw
/-- PageServerModel.readString(Z)I -/
abbrev rmX6_readString : Room := { frames := 1, cells := 0, slots := 0, locals := 22 }
section
variable {p : Program} {l : Launch} {e : Env} {s : State} {m : MethodId} {args : Array Value} {below : List Frame} {meth : Method} {c : Code} {D : va_G} {N0 : Nat} {gp : Nat → Nat} {ad : Nat → Nat} {XF : x_X} {h : x_H}
def wX6_readString_b135 (post : Int32 → (Nat → Int32) → (Nat → Nat → Int32) → Prop) (K41 : (Nat → Int32) → (Nat → Nat → Int32) → Int32 → Int32 → Prop) (p1 : Int32) (F : (Nat → Int32)) (M : (Nat → Nat → Int32)) (x2 : Int32) (x3 : Int32) : Prop :=
  K41 F M x2 (x3 + 1)
theorem kX6_readString_b135 {post : Int32 → (Nat → Int32) → (Nat → Nat → Int32) → Prop} {K41 : (Nat → Int32) → (Nat → Nat → Int32) → Int32 → Int32 → Prop} {p1 : Int32} (C : x_C p s m args meth c cX6_readString 5 (some .int) RX6 D N0 gp) (hK41 : ∀ (F : (Nat → Int32)) (M : (Nat → Nat → Int32)) (x2 : Int32) (x3 : Int32) (H : Heap) (locs : List Loc) (ls : Array Slot), x_R D s N0 (fixM ad F M ++ XF) h H → va_S (x_A N0) s.heap H locs → lv_has ls 5 [(0, .ref (ad 1000)), (1, .int p1), (2, .int x2), (3, .int x3)] → K41 F M x2 x3 → W p l e rmX6_readString s m args below meth c H locs 0 0 (MQ below (x_Qc D N0 (x_Vi (qMi ad XF h post))) args s 0 0 (x_A N0)) (F0 m 41 ls [])) {F : (Nat → Int32)} {M : (Nat → Nat → Int32)} {x2 : Int32} {x3 : Int32} {H : Heap} {locs : List Loc} {ls : Array Slot} (hR : x_R D s N0 (fixM ad F M ++ XF) h H) (hS : va_S (x_A N0) s.heap H locs) (hl : lv_has ls 5 [(0, .ref (ad 1000)), (1, .int p1), (2, .int x2), (3, .int x3)]) (hw : wX6_readString_b135 post K41 p1 F M x2 x3) : W p l e rmX6_readString s m args below meth c H locs 0 0 (MQ below (x_Qc D N0 (x_Vi (qMi ad XF h post))) args s 0 0 (x_A N0)) (F0 m 135 ls []) := by
  obtain ⟨⟨hx, hb, hml, hown, hts⟩, hr, hlocks, hG, hN⟩ := id C
  unfold wX6_readString_b135 at hw
  refine lv_iinc (v := x3 + 1) (lv' := [(3, .int (x3 + 1)), (0, .ref (ad 1000)), (1, .int p1), (2, .int x2)]) hx hb dX6_readString_135 hl (k := 3) rfl (x_inc 1 1 (by decide)) (by decide) rfl (fun ls hl => ?_)
  refine lv_goto (tgt := 41) hx hb dX6_readString_138 (by decide) ?_
  exact hK41 _ _ _ _ _ _ _ hR hS (lv_sub hl [1, 2, 3, 0] rfl) hw
def wX6_readString_b111 (post : Int32 → (Nat → Int32) → (Nat → Nat → Int32) → Prop) (K41 : (Nat → Int32) → (Nat → Nat → Int32) → Int32 → Int32 → Prop) (p1 : Int32) (F : (Nat → Int32)) (M : (Nat → Nat → Int32)) (x2 : Int32) (x3 : Int32) (x4 : Int32) : Prop :=
  ((F 37) = 0 → wX6_readString_b135 post K41 p1 F M x2 x3) ∧ (¬ (F 37) = 0 → (p1 = 0 → vp_in ((320 : Int32) + x3) 340 ∧ wX6_readString_b135 post K41 p1 F (va_up M 11 (upd (M 11) ((320 : Int32) + x3).toNatClampNeg (vp_nar .char ((x4.toUInt32 % 65536).toInt32)))) x2 x3) ∧ (¬ p1 = 0 → wX6_readString_b135 post K41 p1 F M x2 x3))
theorem kX6_readString_b111 {post : Int32 → (Nat → Int32) → (Nat → Nat → Int32) → Prop} {K41 : (Nat → Int32) → (Nat → Nat → Int32) → Int32 → Int32 → Prop} {p1 : Int32} (C : x_C p s m args meth c cX6_readString 5 (some .int) RX6 D N0 gp) (hK41 : ∀ (F : (Nat → Int32)) (M : (Nat → Nat → Int32)) (x2 : Int32) (x3 : Int32) (H : Heap) (locs : List Loc) (ls : Array Slot), x_R D s N0 (fixM ad F M ++ XF) h H → va_S (x_A N0) s.heap H locs → lv_has ls 5 [(0, .ref (ad 1000)), (1, .int p1), (2, .int x2), (3, .int x3)] → K41 F M x2 x3 → W p l e rmX6_readString s m args below meth c H locs 0 0 (MQ below (x_Qc D N0 (x_Vi (qMi ad XF h post))) args s 0 0 (x_A N0)) (F0 m 41 ls [])) {F : (Nat → Int32)} {M : (Nat → Nat → Int32)} {x2 : Int32} {x3 : Int32} {x4 : Int32} {H : Heap} {locs : List Loc} {ls : Array Slot} (hR : x_R D s N0 (fixM ad F M ++ XF) h H) (hS : va_S (x_A N0) s.heap H locs) (hl : lv_has ls 5 [(0, .ref (ad 1000)), (1, .int p1), (2, .int x2), (3, .int x3), (4, .int x4)]) (hw : wX6_readString_b111 post K41 p1 F M x2 x3 x4) : W p l e rmX6_readString s m args below meth c H locs 0 0 (MQ below (x_Qc D N0 (x_Vi (qMi ad XF h post))) args s 0 0 (x_A N0)) (F0 m 111 ls []) := by
  obtain ⟨⟨hx, hb, hml, hown, hts⟩, hr, hlocks, hG, hN⟩ := id C
  unfold wX6_readString_b111 at hw
  refine lv_aload_n hx hb dX6_readString_111 rfl (lv_at hl 0 rfl) ?_
  refine x_get (ci := 5) (Cn := RX6) (T := TX6) (N := 55) (v := .int (F 37)) C (hR.rdX 0 rfl) rfl in_X6 37 (by decide) q1216 (fun _ h9 => h9) rfl dX6_readString_112 ?_
  refine lv_if_eq (tgt := 135) hx hb dX6_readString_115 (by decide) (fun c42 => ?_) (fun c42 => ?_)
  · have hw := hw.1 c42
    exact kX6_readString_b135 C hK41 hR hS (lv_sub hl [0, 1, 2, 3] rfl) hw
  · have hw := hw.2 c42
    refine lv_iload_n hx hb dX6_readString_118 rfl (lv_at hl 1 rfl) ?_
    refine lv_if_ne (tgt := 135) hx hb dX6_readString_119 (by decide) (fun c43 => ?_) (fun c43 => ?_)
    · have hw := hw.2 c43
      exact kX6_readString_b135 C hK41 hR hS (lv_sub hl [0, 1, 2, 3] rfl) hw
    · have hw := hw.1 c43
      refine lv_aload_n hx hb dX6_readString_122 rfl (lv_at hl 0 rfl) ?_
      refine x_get (ci := 5) (Cn := RX6) (T := TX6) (N := 55) (v := .ref (ad 11)) C (hR.rdX 0 rfl) rfl in_X6 11 (by decide) q1190 (fun _ h9 => h9) rfl dX6_readString_123 ?_
      refine lv_sipush (v := 320) hx hb dX6_readString_126 (by decide) ?_
      refine lv_iload_n hx hb dX6_readString_129 rfl (lv_at hl 3 rfl) ?_
      refine lv_iadd hx hb dX6_readString_130 ?_
      refine lv_iload hx hb dX6_readString_131 (lv_at hl 4 rfl) ?_
      refine lv_i2c hx hb dX6_readString_133 rfl ?_
      obtain ⟨b44, hw⟩ := hw
      refine x_castX (n := 340) (f := (M 11)) C hR hS 8 rfl b44 (sM_a11 ..) dX6_readString_134 (fun H locs hR hS => ?_)
      exact kX6_readString_b135 C hK41 hR hS (lv_sub hl [0, 1, 2, 3] rfl) hw
def wX6_readString_b84 (post : Int32 → (Nat → Int32) → (Nat → Nat → Int32) → Prop) (K41 : (Nat → Int32) → (Nat → Nat → Int32) → Int32 → Int32 → Prop) (p1 : Int32) (F : (Nat → Int32)) (M : (Nat → Nat → Int32)) (x2 : Int32) (x3 : Int32) (x4 : Int32) (s0 : Int32) : Prop :=
  x_bit s0 ∧ (s0 = 0 → wX6_readString_b111 post K41 p1 (upd F 37 s0) M x2 x3 x4) ∧ (¬ s0 = 0 → (p1 = 0 → wX6_readString_b111 post K41 p1 (upd F 37 s0) M x2 x3 x4) ∧ (¬ p1 = 0 → vp_in ((320 : Int32) + x3) 340 ∧ wX6_readString_b111 post K41 p1 (upd F 37 s0) (va_up M 9 (upd (M 9) ((320 : Int32) + x3).toNatClampNeg (vp_nar .char ((x4.toUInt32 % 65536).toInt32)))) x2 x3 x4))
theorem kX6_readString_b84 {post : Int32 → (Nat → Int32) → (Nat → Nat → Int32) → Prop} {K41 : (Nat → Int32) → (Nat → Nat → Int32) → Int32 → Int32 → Prop} {p1 : Int32} (C : x_C p s m args meth c cX6_readString 5 (some .int) RX6 D N0 gp) (hK41 : ∀ (F : (Nat → Int32)) (M : (Nat → Nat → Int32)) (x2 : Int32) (x3 : Int32) (H : Heap) (locs : List Loc) (ls : Array Slot), x_R D s N0 (fixM ad F M ++ XF) h H → va_S (x_A N0) s.heap H locs → lv_has ls 5 [(0, .ref (ad 1000)), (1, .int p1), (2, .int x2), (3, .int x3)] → K41 F M x2 x3 → W p l e rmX6_readString s m args below meth c H locs 0 0 (MQ below (x_Qc D N0 (x_Vi (qMi ad XF h post))) args s 0 0 (x_A N0)) (F0 m 41 ls [])) {F : (Nat → Int32)} {M : (Nat → Nat → Int32)} {x2 : Int32} {x3 : Int32} {x4 : Int32} {s0 : Int32} {H : Heap} {locs : List Loc} {ls : Array Slot} (hR : x_R D s N0 (fixM ad F M ++ XF) h H) (hS : va_S (x_A N0) s.heap H locs) (hl : lv_has ls 5 [(0, .ref (ad 1000)), (1, .int p1), (2, .int x2), (3, .int x3), (4, .int x4)]) (hw : wX6_readString_b84 post K41 p1 F M x2 x3 x4 s0) : W p l e rmX6_readString s m args below meth c H locs 0 0 (MQ below (x_Qc D N0 (x_Vi (qMi ad XF h post))) args s 0 0 (x_A N0)) (F0 m 84 ls [.int s0, .ref (ad 1000)]) := by
  obtain ⟨⟨hx, hb, hml, hown, hts⟩, hr, hlocks, hG, hN⟩ := id C
  unfold wX6_readString_b84 at hw
  obtain ⟨z38, hw⟩ := hw
  refine x_putX (ci := 5) (Cn := RX6) (T := TX6) (N := 55) (v := .int s0) C hR hS 0 rfl rfl in_X6 tyX6_ok nmX6 37 (by decide) q1216 (fun _ h9 => h9) rfl (x_bitN z38) (x_bitF z38) (Nat.le_of_ble_eq_true rfl) (sM_f37 ..) dX6_readString_84 (fun H locs hR hS => ?_)
  refine lv_aload_n hx hb dX6_readString_87 rfl (lv_at hl 0 rfl) ?_
  refine x_get (ci := 5) (Cn := RX6) (T := TX6) (N := 55) (v := .int s0) C (hR.rdX 0 rfl) rfl in_X6 37 (by decide) q1216 (fun _ h9 => h9) rfl dX6_readString_88 ?_
  refine lv_if_eq (tgt := 111) hx hb dX6_readString_91 (by decide) (fun c39 => ?_) (fun c39 => ?_)
  · have hw := hw.1 c39
    exact kX6_readString_b111 C hK41 hR hS (lv_sub hl [0, 1, 2, 3, 4] rfl) hw
  · have hw := hw.2 c39
    refine lv_iload_n hx hb dX6_readString_94 rfl (lv_at hl 1 rfl) ?_
    refine lv_if_eq (tgt := 111) hx hb dX6_readString_95 (by decide) (fun c40 => ?_) (fun c40 => ?_)
    · have hw := hw.1 c40
      exact kX6_readString_b111 C hK41 hR hS (lv_sub hl [0, 1, 2, 3, 4] rfl) hw
    · have hw := hw.2 c40
      refine lv_aload_n hx hb dX6_readString_98 rfl (lv_at hl 0 rfl) ?_
      refine x_get (ci := 5) (Cn := RX6) (T := TX6) (N := 55) (v := .ref (ad 9)) C (hR.rdX 0 rfl) rfl in_X6 9 (by decide) q1188 (fun _ h9 => h9) rfl dX6_readString_99 ?_
      refine lv_sipush (v := 320) hx hb dX6_readString_102 (by decide) ?_
      refine lv_iload_n hx hb dX6_readString_105 rfl (lv_at hl 3 rfl) ?_
      refine lv_iadd hx hb dX6_readString_106 ?_
      refine lv_iload hx hb dX6_readString_107 (lv_at hl 4 rfl) ?_
      refine lv_i2c hx hb dX6_readString_109 rfl ?_
      obtain ⟨b41, hw⟩ := hw
      refine x_castX (n := 340) (f := (M 9)) C hR hS 6 rfl b41 (sM_a9 ..) dX6_readString_110 (fun H locs hR hS => ?_)
      exact kX6_readString_b111 C hK41 hR hS (lv_sub hl [0, 1, 2, 3, 4] rfl) hw
def wX6_readString_b83 (post : Int32 → (Nat → Int32) → (Nat → Nat → Int32) → Prop) (K41 : (Nat → Int32) → (Nat → Nat → Int32) → Int32 → Int32 → Prop) (p1 : Int32) (F : (Nat → Int32)) (M : (Nat → Nat → Int32)) (x2 : Int32) (x3 : Int32) (x4 : Int32) : Prop :=
  wX6_readString_b84 post K41 p1 F M x2 x3 x4 0
theorem kX6_readString_b83 {post : Int32 → (Nat → Int32) → (Nat → Nat → Int32) → Prop} {K41 : (Nat → Int32) → (Nat → Nat → Int32) → Int32 → Int32 → Prop} {p1 : Int32} (C : x_C p s m args meth c cX6_readString 5 (some .int) RX6 D N0 gp) (hK41 : ∀ (F : (Nat → Int32)) (M : (Nat → Nat → Int32)) (x2 : Int32) (x3 : Int32) (H : Heap) (locs : List Loc) (ls : Array Slot), x_R D s N0 (fixM ad F M ++ XF) h H → va_S (x_A N0) s.heap H locs → lv_has ls 5 [(0, .ref (ad 1000)), (1, .int p1), (2, .int x2), (3, .int x3)] → K41 F M x2 x3 → W p l e rmX6_readString s m args below meth c H locs 0 0 (MQ below (x_Qc D N0 (x_Vi (qMi ad XF h post))) args s 0 0 (x_A N0)) (F0 m 41 ls [])) {F : (Nat → Int32)} {M : (Nat → Nat → Int32)} {x2 : Int32} {x3 : Int32} {x4 : Int32} {H : Heap} {locs : List Loc} {ls : Array Slot} (hR : x_R D s N0 (fixM ad F M ++ XF) h H) (hS : va_S (x_A N0) s.heap H locs) (hl : lv_has ls 5 [(0, .ref (ad 1000)), (1, .int p1), (2, .int x2), (3, .int x3), (4, .int x4)]) (hw : wX6_readString_b83 post K41 p1 F M x2 x3 x4) : W p l e rmX6_readString s m args below meth c H locs 0 0 (MQ below (x_Qc D N0 (x_Vi (qMi ad XF h post))) args s 0 0 (x_A N0)) (F0 m 83 ls [.ref (ad 1000)]) := by
  obtain ⟨⟨hx, hb, hml, hown, hts⟩, hr, hlocks, hG, hN⟩ := id C
  unfold wX6_readString_b83 at hw
  refine lv_iconst (v := 0) hx hb dX6_readString_83 (by decide) ?_
  exact kX6_readString_b84 C hK41 hR hS (lv_sub hl [0, 1, 2, 3, 4] rfl) hw
def wX6_readString_b141 (post : Int32 → (Nat → Int32) → (Nat → Nat → Int32) → Prop) (p1 : Int32) (F : (Nat → Int32)) (M : (Nat → Nat → Int32)) (x2 : Int32) : Prop :=
  post x2 F M
theorem kX6_readString_b141 {post : Int32 → (Nat → Int32) → (Nat → Nat → Int32) → Prop} {p1 : Int32} (C : x_C p s m args meth c cX6_readString 5 (some .int) RX6 D N0 gp) {F : (Nat → Int32)} {M : (Nat → Nat → Int32)} {x2 : Int32} {H : Heap} {locs : List Loc} {ls : Array Slot} (hR : x_R D s N0 (fixM ad F M ++ XF) h H) (hS : va_S (x_A N0) s.heap H locs) (hl : lv_has ls 5 [(2, .int x2)]) (hw : wX6_readString_b141 post p1 F M x2) : W p l e rmX6_readString s m args below meth c H locs 0 0 (MQ below (x_Qc D N0 (x_Vi (qMi ad XF h post))) args s 0 0 (x_A N0)) (F0 m 141 ls []) := by
  obtain ⟨⟨hx, hb, hml, hown, hts⟩, hr, hlocks, hG, hN⟩ := id C
  unfold wX6_readString_b141 at hw
  refine lv_iload_n hx hb dX6_readString_141 rfl (lv_at hl 0 rfl) ?_
  exact x_endi C hR hS ⟨_, rfl, ⟨_, _, rfl, rfl, hw⟩⟩ (Nat.le_refl _) (Nat.le_refl _) dX6_readString_142
def tX6_readString_b41 (post : Int32 → (Nat → Int32) → (Nat → Nat → Int32) → Prop) (K41 : (Nat → Int32) → (Nat → Nat → Int32) → Int32 → Int32 → Prop) (p1 : Int32) (F : (Nat → Int32)) (M : (Nat → Nat → Int32)) (x2 : Int32) (x3 : Int32) : Prop :=
  (x2 ≤ x3 → wX6_readString_b141 post p1 F M x2) ∧ (¬ x2 ≤ x3 → ((F 37) = 0 → wX6_readString_b141 post p1 F M x2) ∧ (¬ (F 37) = 0 → wX6_next (fun r33 F34 M34 => ((F34 37) = 0 → wX6_readString_b83 post K41 p1 F34 M34 x2 x3 r33) ∧ (¬ (F34 37) = 0 → wX6_outside (fun r36 => (r36 = 0 → wX6_readString_b84 post K41 p1 F34 M34 x2 x3 r33 1) ∧ (¬ r36 = 0 → wX6_readString_b83 post K41 p1 F34 M34 x2 x3 r33)) r33 33 126)) F M))
def wX6_readString_b41 (post : Int32 → (Nat → Int32) → (Nat → Nat → Int32) → Prop) (p1 : Int32) : Nat → (Nat → Int32) → (Nat → Nat → Int32) → Int32 → Int32 → Prop
  | 0 => fun _ _ _ _ => False
  | n + 1 => fun F M x2 x3 => tX6_readString_b41 post (wX6_readString_b41 post p1 n) p1 F M x2 x3
theorem kX6_readString_b41 {post : Int32 → (Nat → Int32) → (Nat → Nat → Int32) → Prop} {p1 : Int32} (C : x_C p s m args meth c cX6_readString 5 (some .int) RX6 D N0 gp) : ∀ (nn : Nat) (F : (Nat → Int32)) (M : (Nat → Nat → Int32)) (x2 : Int32) (x3 : Int32) (H : Heap) (locs : List Loc) (ls : Array Slot), x_R D s N0 (fixM ad F M ++ XF) h H → va_S (x_A N0) s.heap H locs → lv_has ls 5 [(0, .ref (ad 1000)), (1, .int p1), (2, .int x2), (3, .int x3)] → wX6_readString_b41 post p1 nn F M x2 x3 → W p l e rmX6_readString s m args below meth c H locs 0 0 (MQ below (x_Qc D N0 (x_Vi (qMi ad XF h post))) args s 0 0 (x_A N0)) (F0 m 41 ls []) := by
  obtain ⟨⟨hx, hb, hml, hown, hts⟩, hr, hlocks, hG, hN⟩ := id C
  intro nn
  induction nn with
  | zero =>
    intro F M x2 x3 H locs ls hR hS hl hw
    exact False.elim hw
  | succ nn ih =>
    intro F M x2 x3 H locs ls hR hS hl hw
    have hK41 := ih
    have hw : tX6_readString_b41 post (wX6_readString_b41 post p1 nn) p1 F M x2 x3 := hw
    unfold tX6_readString_b41 at hw
    refine lv_iload_n hx hb dX6_readString_41 rfl (lv_at hl 3 rfl) ?_
    refine lv_iload_n hx hb dX6_readString_42 rfl (lv_at hl 2 rfl) ?_
    refine lv_icmp_ge (tgt := 141) hx hb dX6_readString_43 (by decide) (fun c31 => ?_) (fun c31 => ?_)
    · have hw := hw.1 c31
      exact kX6_readString_b141 C hR hS (lv_sub hl [2] rfl) hw
    · have hw := hw.2 c31
      refine lv_aload_n hx hb dX6_readString_46 rfl (lv_at hl 0 rfl) ?_
      refine x_get (ci := 5) (Cn := RX6) (T := TX6) (N := 55) (v := .int (F 37)) C (hR.rdX 0 rfl) rfl in_X6 37 (by decide) q1216 (fun _ h9 => h9) rfl dX6_readString_47 ?_
      refine lv_if_eq (tgt := 141) hx hb dX6_readString_50 (by decide) (fun c32 => ?_) (fun c32 => ?_)
      · have hw := hw.1 c32
        exact kX6_readString_b141 C hR hS (lv_sub hl [2] rfl) hw
      · have hw := hw.2 c32
        refine lv_aload_n hx hb dX6_readString_53 rfl (lv_at hl 0 rfl) ?_
        refine x_calli0 (x_runV (n := 0) (As := []) C hR hS (kX6_next l D N0 gp ad XF _ F M _ hw) (lw_V q1451 q1453 qs61 q104 q1454) rfl rfl (by decide +kernel) ⟨Nat.le_of_ble_eq_true rfl, Nat.le_of_ble_eq_true rfl⟩ (x_recv C (hR.rdX 0 rfl) rfl) rfl hl.1 rfl (Nat.le_of_ble_eq_true rfl) dX6_readString_54 ⟨Nat.le_refl _, Nat.le_refl _⟩) hS (fun r33 X1 h1 H locs hq hR hS => ?_)
        obtain ⟨F34, M34, e1, e2, hw⟩ := hq
        rw [e1, e2] at hR
        refine lv_istore (lv' := [(4, .int r33), (0, .ref (ad 1000)), (1, .int p1), (2, .int x2), (3, .int x3)]) hx hb dX6_readString_57 hl (by decide) rfl (fun ls hl => ?_)
        refine lv_aload_n hx hb dX6_readString_59 rfl (lv_at hl 1 rfl) ?_
        refine lv_aload_n hx hb dX6_readString_60 rfl (lv_at hl 1 rfl) ?_
        refine x_get (ci := 5) (Cn := RX6) (T := TX6) (N := 55) (v := .int (F34 37)) C (hR.rdX 0 rfl) rfl in_X6 37 (by decide) q1216 (fun _ h9 => h9) rfl dX6_readString_61 ?_
        refine lv_if_eq (tgt := 83) hx hb dX6_readString_64 (by decide) (fun c35 => ?_) (fun c35 => ?_)
        · have hw := hw.1 c35
          exact kX6_readString_b83 C hK41 hR hS (lv_sub hl [1, 2, 3, 4, 0] rfl) hw
        · have hw := hw.2 c35
          refine lv_iload hx hb dX6_readString_67 (lv_at hl 0 rfl) ?_
          refine lv_bipush (v := 33) hx hb dX6_readString_69 (by decide) ?_
          refine lv_bipush (v := 126) hx hb dX6_readString_71 (by decide) ?_
          refine x_calli0 (x_runS (n := 3) (As := [.int r33, .int 33, .int 126]) C hR hS (kX6_outside l D N0 gp _ _ r33 33 126 _ hw) (lw_S q1368 q1369 q104 q1370) rfl rfl (by decide +kernel) ⟨Nat.le_of_ble_eq_true rfl, Nat.le_of_ble_eq_true rfl⟩ rfl hl.1 rfl (Nat.le_of_ble_eq_true rfl) dX6_readString_73 ⟨Nat.le_refl _, Nat.le_refl _⟩) hS (fun r36 X1 h1 H locs hq hR hS => ?_)
          obtain ⟨e1, e2, hw⟩ := hq
          rw [e1, e2] at hR
          refine lv_if_ne (tgt := 83) hx hb dX6_readString_76 (by decide) (fun c37 => ?_) (fun c37 => ?_)
          · have hw := hw.2 c37
            exact kX6_readString_b83 C hK41 hR hS (lv_sub hl [1, 2, 3, 4, 0] rfl) hw
          · have hw := hw.1 c37
            refine lv_iconst (v := 1) hx hb dX6_readString_79 (by decide) ?_
            refine lv_goto (tgt := 84) hx hb dX6_readString_80 (by decide) ?_
            exact kX6_readString_b84 C hK41 hR hS (lv_sub hl [1, 2, 3, 4, 0] rfl) hw
def wX6_readString_b36 (post : Int32 → (Nat → Int32) → (Nat → Nat → Int32) → Prop) (p1 : Int32) (F : (Nat → Int32)) (M : (Nat → Nat → Int32)) (x2 : Int32) (s0 : Int32) : Prop :=
  x_bit s0 ∧ ∃ n30 : Nat, wX6_readString_b41 post p1 n30 (upd F 37 s0) M x2 0
theorem kX6_readString_b36 {post : Int32 → (Nat → Int32) → (Nat → Nat → Int32) → Prop} {p1 : Int32} (C : x_C p s m args meth c cX6_readString 5 (some .int) RX6 D N0 gp) {F : (Nat → Int32)} {M : (Nat → Nat → Int32)} {x2 : Int32} {s0 : Int32} {H : Heap} {locs : List Loc} {ls : Array Slot} (hR : x_R D s N0 (fixM ad F M ++ XF) h H) (hS : va_S (x_A N0) s.heap H locs) (hl : lv_has ls 5 [(0, .ref (ad 1000)), (1, .int p1), (2, .int x2)]) (hw : wX6_readString_b36 post p1 F M x2 s0) : W p l e rmX6_readString s m args below meth c H locs 0 0 (MQ below (x_Qc D N0 (x_Vi (qMi ad XF h post))) args s 0 0 (x_A N0)) (F0 m 36 ls [.int s0, .ref (ad 1000)]) := by
  obtain ⟨⟨hx, hb, hml, hown, hts⟩, hr, hlocks, hG, hN⟩ := id C
  unfold wX6_readString_b36 at hw
  obtain ⟨z29, hw⟩ := hw
  refine x_putX (ci := 5) (Cn := RX6) (T := TX6) (N := 55) (v := .int s0) C hR hS 0 rfl rfl in_X6 tyX6_ok nmX6 37 (by decide) q1216 (fun _ h9 => h9) rfl (x_bitN z29) (x_bitF z29) (Nat.le_of_ble_eq_true rfl) (sM_f37 ..) dX6_readString_36 (fun H locs hR hS => ?_)
  refine lv_iconst (v := 0) hx hb dX6_readString_39 (by decide) ?_
  refine lv_istore_n (lv' := [(3, .int 0), (0, .ref (ad 1000)), (1, .int p1), (2, .int x2)]) hx hb dX6_readString_40 rfl hl (by decide) rfl (fun ls hl => ?_)
  obtain ⟨n30, hw⟩ := hw
  exact kX6_readString_b41 C n30 _ _ _ _ _ _ _ hR hS (lv_sub hl [1, 2, 3, 0] rfl) hw
def wX6_readString_b35 (post : Int32 → (Nat → Int32) → (Nat → Nat → Int32) → Prop) (p1 : Int32) (F : (Nat → Int32)) (M : (Nat → Nat → Int32)) (x2 : Int32) : Prop :=
  wX6_readString_b36 post p1 F M x2 0
theorem kX6_readString_b35 {post : Int32 → (Nat → Int32) → (Nat → Nat → Int32) → Prop} {p1 : Int32} (C : x_C p s m args meth c cX6_readString 5 (some .int) RX6 D N0 gp) {F : (Nat → Int32)} {M : (Nat → Nat → Int32)} {x2 : Int32} {H : Heap} {locs : List Loc} {ls : Array Slot} (hR : x_R D s N0 (fixM ad F M ++ XF) h H) (hS : va_S (x_A N0) s.heap H locs) (hl : lv_has ls 5 [(0, .ref (ad 1000)), (1, .int p1), (2, .int x2)]) (hw : wX6_readString_b35 post p1 F M x2) : W p l e rmX6_readString s m args below meth c H locs 0 0 (MQ below (x_Qc D N0 (x_Vi (qMi ad XF h post))) args s 0 0 (x_A N0)) (F0 m 35 ls [.ref (ad 1000)]) := by
  obtain ⟨⟨hx, hb, hml, hown, hts⟩, hr, hlocks, hG, hN⟩ := id C
  unfold wX6_readString_b35 at hw
  refine lv_iconst (v := 0) hx hb dX6_readString_35 (by decide) ?_
  exact kX6_readString_b36 C hR hS (lv_sub hl [0, 1, 2] rfl) hw
def wX6_readString_b23 (post : Int32 → (Nat → Int32) → (Nat → Nat → Int32) → Prop) (p1 : Int32) (F : (Nat → Int32)) (M : (Nat → Nat → Int32)) (x2 : Int32) (s0 : Int32) (s1 : Int32) : Prop :=
  wX6_outside (fun r27 => (r27 = 0 → wX6_readString_b36 post p1 F M x2 1) ∧ (¬ r27 = 0 → wX6_readString_b35 post p1 F M x2)) s1 s0 20
theorem kX6_readString_b23 {post : Int32 → (Nat → Int32) → (Nat → Nat → Int32) → Prop} {p1 : Int32} (C : x_C p s m args meth c cX6_readString 5 (some .int) RX6 D N0 gp) {F : (Nat → Int32)} {M : (Nat → Nat → Int32)} {x2 : Int32} {s0 : Int32} {s1 : Int32} {H : Heap} {locs : List Loc} {ls : Array Slot} (hR : x_R D s N0 (fixM ad F M ++ XF) h H) (hS : va_S (x_A N0) s.heap H locs) (hl : lv_has ls 5 [(0, .ref (ad 1000)), (1, .int p1), (2, .int x2)]) (hw : wX6_readString_b23 post p1 F M x2 s0 s1) : W p l e rmX6_readString s m args below meth c H locs 0 0 (MQ below (x_Qc D N0 (x_Vi (qMi ad XF h post))) args s 0 0 (x_A N0)) (F0 m 23 ls [.int s0, .int s1, .ref (ad 1000)]) := by
  obtain ⟨⟨hx, hb, hml, hown, hts⟩, hr, hlocks, hG, hN⟩ := id C
  unfold wX6_readString_b23 at hw
  refine lv_bipush (v := 20) hx hb dX6_readString_23 (by decide) ?_
  refine x_calli0 (x_runS (n := 3) (As := [.int s1, .int s0, .int 20]) C hR hS (kX6_outside l D N0 gp _ _ s1 s0 20 _ hw) (lw_S q1368 q1369 q104 q1370) rfl rfl (by decide +kernel) ⟨Nat.le_of_ble_eq_true rfl, Nat.le_of_ble_eq_true rfl⟩ rfl hl.1 rfl (Nat.le_of_ble_eq_true rfl) dX6_readString_25 ⟨Nat.le_refl _, Nat.le_refl _⟩) hS (fun r27 X1 h1 H locs hq hR hS => ?_)
  obtain ⟨e1, e2, hw⟩ := hq
  rw [e1, e2] at hR
  refine lv_if_ne (tgt := 35) hx hb dX6_readString_28 (by decide) (fun c28 => ?_) (fun c28 => ?_)
  · have hw := hw.2 c28
    exact kX6_readString_b35 C hR hS (lv_sub hl [0, 1, 2] rfl) hw
  · have hw := hw.1 c28
    refine lv_iconst (v := 1) hx hb dX6_readString_31 (by decide) ?_
    refine lv_goto (tgt := 36) hx hb dX6_readString_32 (by decide) ?_
    exact kX6_readString_b36 C hR hS (lv_sub hl [0, 1, 2] rfl) hw
end
def wX6_readString (post : Int32 → (Nat → Int32) → (Nat → Nat → Int32) → Prop) (p1 : Int32) (F : (Nat → Int32)) (M : (Nat → Nat → Int32)) : Prop :=
  wX6_next (fun r23 F24 M24 => ((F24 37) = 0 → wX6_readString_b35 post p1 F24 M24 r23) ∧ (¬ (F24 37) = 0 → (p1 = 0 → wX6_readString_b23 post p1 F24 M24 r23 0 r23) ∧ (¬ p1 = 0 → wX6_readString_b23 post p1 F24 M24 r23 1 r23))) F M
theorem kX6_readString (l : Launch) (D : va_G) (N0 : Nat) (gp : Nat → Nat) (ad : Nat → Nat) (XF : x_X) (h : x_H) (p1 : Int32) (F : (Nat → Int32)) (M : (Nat → Nat → Int32)) (post : Int32 → (Nat → Int32) → (Nat → Nat → Int32) → Prop) (hw : wX6_readString post p1 F M) : Met l yX6_readString (ws_ yX6_readString cX6_readString 5 (some .int)) rmX6_readString (x_Pc D N0 gp (fixM ad F M ++ XF) h [.ref (ad 1000), .int p1]) (x_Qc D N0 (x_Vi (qMi ad XF h post))) 0 0 (x_A N0) := by
  refine x_start (lv := [(0, .ref (ad 1000)), (1, .int p1)]) (by decide) rfl (Nat.le_of_ble_eq_true rfl) rfl ?_
  intro p e s m below meth c C hR ls hl
  have hS : va_S (x_A N0) s.heap s.heap [] := va_S.rf
  obtain ⟨⟨hx, hb, hml, hown, hts⟩, hr, hlocks, hG, hN⟩ := id C
  unfold wX6_readString at hw
  refine lv_aload_n hx hb dX6_readString_0 rfl (lv_at hl 0 rfl) ?_
  refine x_calli0 (x_runV (n := 0) (As := []) C hR hS (kX6_next l D N0 gp ad XF _ F M _ hw) (lw_V q1451 q1453 qs61 q104 q1454) rfl rfl (by decide +kernel) ⟨Nat.le_of_ble_eq_true rfl, Nat.le_of_ble_eq_true rfl⟩ (x_recv C (hR.rdX 0 rfl) rfl) rfl hl.1 rfl (Nat.le_of_ble_eq_true rfl) dX6_readString_1 ⟨Nat.le_refl _, Nat.le_refl _⟩) hS (fun r23 X1 h1 H locs hq hR hS => ?_)
  obtain ⟨F24, M24, e1, e2, hw⟩ := hq
  rw [e1, e2] at hR
  refine lv_istore_n (lv' := [(2, .int r23), (0, .ref (ad 1000)), (1, .int p1)]) hx hb dX6_readString_4 rfl hl (by decide) rfl (fun ls hl => ?_)
  refine lv_aload_n hx hb dX6_readString_5 rfl (lv_at hl 1 rfl) ?_
  refine lv_aload_n hx hb dX6_readString_6 rfl (lv_at hl 1 rfl) ?_
  refine x_get (ci := 5) (Cn := RX6) (T := TX6) (N := 55) (v := .int (F24 37)) C (hR.rdX 0 rfl) rfl in_X6 37 (by decide) q1216 (fun _ h9 => h9) rfl dX6_readString_7 ?_
  refine lv_if_eq (tgt := 35) hx hb dX6_readString_10 (by decide) (fun c25 => ?_) (fun c25 => ?_)
  · have hw := hw.1 c25
    exact kX6_readString_b35 C hR hS (lv_sub hl [1, 2, 0] rfl) hw
  · have hw := hw.2 c25
    refine lv_iload_n hx hb dX6_readString_13 rfl (lv_at hl 0 rfl) ?_
    refine lv_iload_n hx hb dX6_readString_14 rfl (lv_at hl 2 rfl) ?_
    refine lv_if_eq (tgt := 22) hx hb dX6_readString_15 (by decide) (fun c26 => ?_) (fun c26 => ?_)
    · have hw := hw.1 c26
      refine lv_iconst (v := 0) hx hb dX6_readString_22 (by decide) ?_
      exact kX6_readString_b23 C hR hS (lv_sub hl [1, 2, 0] rfl) hw
    · have hw := hw.2 c26
      refine lv_iconst (v := 1) hx hb dX6_readString_18 (by decide) ?_
      refine lv_goto (tgt := 23) hx hb dX6_readString_19 (by decide) ?_
      exact kX6_readString_b23 C hR hS (lv_sub hl [1, 2, 0] rfl) hw
/-- PageServerModel.readName(I)V -/
abbrev rmX6_readName : Room := { frames := 2, cells := 0, slots := 0, locals := 46 }
section
variable {p : Program} {l : Launch} {e : Env} {s : State} {m : MethodId} {args : Array Value} {below : List Frame} {meth : Method} {c : Code} {D : va_G} {N0 : Nat} {gp : Nat → Nat} {ad : Nat → Nat} {XF : x_X} {h : x_H}
def wX6_readName_b54 (post : (Nat → Int32) → (Nat → Nat → Int32) → Prop) (p1 : Int32) (F : (Nat → Int32)) (M : (Nat → Nat → Int32)) : Prop :=
  post F M
theorem kX6_readName_b54 {post : (Nat → Int32) → (Nat → Nat → Int32) → Prop} {p1 : Int32} (C : x_C p s m args meth c cX6_readName 3 none RX6 D N0 gp) {F : (Nat → Int32)} {M : (Nat → Nat → Int32)} {H : Heap} {locs : List Loc} {ls : Array Slot} (hR : x_R D s N0 (fixM ad F M ++ XF) h H) (hS : va_S (x_A N0) s.heap H locs) (hl : lv_has ls 3 []) (hw : wX6_readName_b54 post p1 F M) : W p l e rmX6_readName s m args below meth c H locs 0 0 (MQ below (x_Qc D N0 (x_Vv (qMv ad XF h post))) args s 0 0 (x_A N0)) (F0 m 54 ls []) := by
  obtain ⟨⟨hx, hb, hml, hown, hts⟩, hr, hlocks, hG, hN⟩ := id C
  unfold wX6_readName_b54 at hw
  exact x_endv C hR hS ⟨rfl, ⟨_, _, rfl, rfl, hw⟩⟩ (Nat.le_refl _) (Nat.le_refl _) dX6_readName_54
def wX6_readName_b107 (post : (Nat → Int32) → (Nat → Nat → Int32) → Prop) (p1 : Int32) (F : (Nat → Int32)) (M : (Nat → Nat → Int32)) : Prop :=
  post F M
theorem kX6_readName_b107 {post : (Nat → Int32) → (Nat → Nat → Int32) → Prop} {p1 : Int32} (C : x_C p s m args meth c cX6_readName 3 none RX6 D N0 gp) {F : (Nat → Int32)} {M : (Nat → Nat → Int32)} {H : Heap} {locs : List Loc} {ls : Array Slot} (hR : x_R D s N0 (fixM ad F M ++ XF) h H) (hS : va_S (x_A N0) s.heap H locs) (hl : lv_has ls 3 []) (hw : wX6_readName_b107 post p1 F M) : W p l e rmX6_readName s m args below meth c H locs 0 0 (MQ below (x_Qc D N0 (x_Vv (qMv ad XF h post))) args s 0 0 (x_A N0)) (F0 m 107 ls []) := by
  obtain ⟨⟨hx, hb, hml, hown, hts⟩, hr, hlocks, hG, hN⟩ := id C
  unfold wX6_readName_b107 at hw
  exact x_endv C hR hS ⟨rfl, ⟨_, _, rfl, rfl, hw⟩⟩ (Nat.le_refl _) (Nat.le_refl _) dX6_readName_107
def tX6_readName_b72 (post : (Nat → Int32) → (Nat → Nat → Int32) → Prop) (K72 : (Nat → Int32) → (Nat → Nat → Int32) → Int32 → Prop) (p1 : Int32) (F : (Nat → Int32)) (M : (Nat → Nat → Int32)) (x2 : Int32) : Prop :=
  ((20 : Int32) ≤ x2 → wX6_readName_b107 post p1 F M) ∧ (¬ (20 : Int32) ≤ x2 → vp_in (((20 : Int32) * (p1 - 1)) + x2) 340 ∧ vp_in ((320 : Int32) + x2) 340 ∧ K72 F (va_up M 9 (upd (M 9) ((320 : Int32) + x2).toNatClampNeg (vp_nar .char ((M 9) (((20 : Int32) * (p1 - 1)) + x2).toNatClampNeg)))) (x2 + 1))
def wX6_readName_b72 (post : (Nat → Int32) → (Nat → Nat → Int32) → Prop) (p1 : Int32) : Nat → (Nat → Int32) → (Nat → Nat → Int32) → Int32 → Prop
  | 0 => fun _ _ _ => False
  | n + 1 => fun F M x2 => tX6_readName_b72 post (wX6_readName_b72 post p1 n) p1 F M x2
theorem kX6_readName_b72 {post : (Nat → Int32) → (Nat → Nat → Int32) → Prop} {p1 : Int32} (C : x_C p s m args meth c cX6_readName 3 none RX6 D N0 gp) : ∀ (nn : Nat) (F : (Nat → Int32)) (M : (Nat → Nat → Int32)) (x2 : Int32) (H : Heap) (locs : List Loc) (ls : Array Slot), x_R D s N0 (fixM ad F M ++ XF) h H → va_S (x_A N0) s.heap H locs → lv_has ls 3 [(0, .ref (ad 1000)), (1, .int p1), (2, .int x2)] → wX6_readName_b72 post p1 nn F M x2 → W p l e rmX6_readName s m args below meth c H locs 0 0 (MQ below (x_Qc D N0 (x_Vv (qMv ad XF h post))) args s 0 0 (x_A N0)) (F0 m 72 ls []) := by
  obtain ⟨⟨hx, hb, hml, hown, hts⟩, hr, hlocks, hG, hN⟩ := id C
  intro nn
  induction nn with
  | zero =>
    intro F M x2 H locs ls hR hS hl hw
    exact False.elim hw
  | succ nn ih =>
    intro F M x2 H locs ls hR hS hl hw
    have hK72 := ih
    have hw : tX6_readName_b72 post (wX6_readName_b72 post p1 nn) p1 F M x2 := hw
    unfold tX6_readName_b72 at hw
    refine lv_iload_n hx hb dX6_readName_72 rfl (lv_at hl 2 rfl) ?_
    refine lv_bipush (v := 20) hx hb dX6_readName_73 (by decide) ?_
    refine lv_icmp_ge (tgt := 107) hx hb dX6_readName_75 (by decide) (fun c24 => ?_) (fun c24 => ?_)
    · have hw := hw.1 c24
      exact kX6_readName_b107 C hR hS (lv_sub hl [] rfl) hw
    · have hw := hw.2 c24
      refine lv_aload_n hx hb dX6_readName_78 rfl (lv_at hl 0 rfl) ?_
      refine x_get (ci := 5) (Cn := RX6) (T := TX6) (N := 55) (v := .ref (ad 9)) C (hR.rdX 0 rfl) rfl in_X6 9 (by decide) q1188 (fun _ h9 => h9) rfl dX6_readName_79 ?_
      refine lv_sipush (v := 320) hx hb dX6_readName_82 (by decide) ?_
      refine lv_iload_n hx hb dX6_readName_85 rfl (lv_at hl 2 rfl) ?_
      refine lv_iadd hx hb dX6_readName_86 ?_
      refine lv_aload_n hx hb dX6_readName_87 rfl (lv_at hl 0 rfl) ?_
      refine x_get (ci := 5) (Cn := RX6) (T := TX6) (N := 55) (v := .ref (ad 9)) C (hR.rdX 0 rfl) rfl in_X6 9 (by decide) q1188 (fun _ h9 => h9) rfl dX6_readName_88 ?_
      refine lv_bipush (v := 20) hx hb dX6_readName_91 (by decide) ?_
      refine lv_iload_n hx hb dX6_readName_93 rfl (lv_at hl 1 rfl) ?_
      refine lv_iconst (v := 1) hx hb dX6_readName_94 (by decide) ?_
      refine lv_isub hx hb dX6_readName_95 ?_
      refine lv_imul hx hb dX6_readName_96 ?_
      refine lv_iload_n hx hb dX6_readName_97 rfl (lv_at hl 2 rfl) ?_
      refine lv_iadd hx hb dX6_readName_98 ?_
      obtain ⟨b25, hw⟩ := hw
      refine x_cald (n := 340) (f := (M 9)) C (hR.rdX 6 rfl) b25 dX6_readName_99 ?_
      obtain ⟨b26, hw⟩ := hw
      refine x_castX (n := 340) (f := (M 9)) C hR hS 6 rfl b26 (sM_a9 ..) dX6_readName_100 (fun H locs hR hS => ?_)
      refine lv_iinc (v := x2 + 1) (lv' := [(2, .int (x2 + 1)), (0, .ref (ad 1000)), (1, .int p1)]) hx hb dX6_readName_101 hl (k := 2) rfl (x_inc 1 1 (by decide)) (by decide) rfl (fun ls hl => ?_)
      refine lv_goto (tgt := 72) hx hb dX6_readName_104 (by decide) ?_
      exact hK72 _ _ _ _ _ _ hR hS (lv_sub hl [1, 2, 0] rfl) hw
def wX6_readName_b43 (post : (Nat → Int32) → (Nat → Nat → Int32) → Prop) (p1 : Int32) (F : (Nat → Int32)) (M : (Nat → Nat → Int32)) : Prop :=
  (p1 = 0 → wX6_readName_b54 post p1 F M) ∧ (¬ p1 = 0 → ((F 37) = 0 → wX6_readName_b54 post p1 F M) ∧ (¬ (F 37) = 0 → vp_in (p1 - 1) 17 ∧ ∃ n23 : Nat, wX6_readName_b72 post p1 n23 F (va_up M 8 (upd (M 8) ((16 : Int32).toNatClampNeg) ((M 8) (p1 - 1).toNatClampNeg))) 0))
theorem kX6_readName_b43 {post : (Nat → Int32) → (Nat → Nat → Int32) → Prop} {p1 : Int32} (C : x_C p s m args meth c cX6_readName 3 none RX6 D N0 gp) {F : (Nat → Int32)} {M : (Nat → Nat → Int32)} {H : Heap} {locs : List Loc} {ls : Array Slot} (hR : x_R D s N0 (fixM ad F M ++ XF) h H) (hS : va_S (x_A N0) s.heap H locs) (hl : lv_has ls 3 [(0, .ref (ad 1000)), (1, .int p1)]) (hw : wX6_readName_b43 post p1 F M) : W p l e rmX6_readName s m args below meth c H locs 0 0 (MQ below (x_Qc D N0 (x_Vv (qMv ad XF h post))) args s 0 0 (x_A N0)) (F0 m 43 ls []) := by
  obtain ⟨⟨hx, hb, hml, hown, hts⟩, hr, hlocks, hG, hN⟩ := id C
  unfold wX6_readName_b43 at hw
  refine lv_iload_n hx hb dX6_readName_43 rfl (lv_at hl 1 rfl) ?_
  refine lv_if_eq (tgt := 54) hx hb dX6_readName_44 (by decide) (fun c20 => ?_) (fun c20 => ?_)
  · have hw := hw.1 c20
    exact kX6_readName_b54 C hR hS (lv_sub hl [] rfl) hw
  · have hw := hw.2 c20
    refine lv_aload_n hx hb dX6_readName_47 rfl (lv_at hl 0 rfl) ?_
    refine x_get (ci := 5) (Cn := RX6) (T := TX6) (N := 55) (v := .int (F 37)) C (hR.rdX 0 rfl) rfl in_X6 37 (by decide) q1216 (fun _ h9 => h9) rfl dX6_readName_48 ?_
    refine lv_if_ne (tgt := 55) hx hb dX6_readName_51 (by decide) (fun c21 => ?_) (fun c21 => ?_)
    · have hw := hw.2 c21
      refine lv_aload_n hx hb dX6_readName_55 rfl (lv_at hl 0 rfl) ?_
      refine x_get (ci := 5) (Cn := RX6) (T := TX6) (N := 55) (v := .ref (ad 8)) C (hR.rdX 0 rfl) rfl in_X6 8 (by decide) q1187 (fun _ h9 => h9) rfl dX6_readName_56 ?_
      refine lv_bipush (v := 16) hx hb dX6_readName_59 (by decide) ?_
      refine lv_aload_n hx hb dX6_readName_61 rfl (lv_at hl 0 rfl) ?_
      refine x_get (ci := 5) (Cn := RX6) (T := TX6) (N := 55) (v := .ref (ad 8)) C (hR.rdX 0 rfl) rfl in_X6 8 (by decide) q1187 (fun _ h9 => h9) rfl dX6_readName_62 ?_
      refine lv_iload_n hx hb dX6_readName_65 rfl (lv_at hl 1 rfl) ?_
      refine lv_iconst (v := 1) hx hb dX6_readName_66 (by decide) ?_
      refine lv_isub hx hb dX6_readName_67 ?_
      obtain ⟨b22, hw⟩ := hw
      refine x_iald (n := 17) (f := (M 8)) C (hR.rdX 5 rfl) b22 dX6_readName_68 ?_
      refine x_iastX (n := 17) (f := (M 8)) C hR hS 5 rfl (by unfold vp_in; decide) (sM_a8 ..) dX6_readName_69 (fun H locs hR hS => ?_)
      refine lv_iconst (v := 0) hx hb dX6_readName_70 (by decide) ?_
      refine lv_istore_n (lv' := [(2, .int 0), (0, .ref (ad 1000)), (1, .int p1)]) hx hb dX6_readName_71 rfl hl (by decide) rfl (fun ls hl => ?_)
      obtain ⟨n23, hw⟩ := hw
      exact kX6_readName_b72 C n23 _ _ _ _ _ _ hR hS (lv_sub hl [1, 2, 0] rfl) hw
    · have hw := hw.1 c21
      exact kX6_readName_b54 C hR hS (lv_sub hl [] rfl) hw
def wX6_readName_b24 (post : (Nat → Int32) → (Nat → Nat → Int32) → Prop) (p1 : Int32) (F : (Nat → Int32)) (M : (Nat → Nat → Int32)) (s0 : Int32) : Prop :=
  x_bit s0 ∧ (p1 = 0 → wX6_readString (fun r18 F19 M19 => wX6_readName_b43 post p1 F19 (va_up M19 8 (upd (M19 8) ((16 : Int32).toNatClampNeg) r18))) 1 (upd F 37 s0) M) ∧ (¬ p1 = 0 → wX6_readName_b43 post p1 (upd F 37 s0) M)
theorem kX6_readName_b24 {post : (Nat → Int32) → (Nat → Nat → Int32) → Prop} {p1 : Int32} (C : x_C p s m args meth c cX6_readName 3 none RX6 D N0 gp) {F : (Nat → Int32)} {M : (Nat → Nat → Int32)} {s0 : Int32} {H : Heap} {locs : List Loc} {ls : Array Slot} (hR : x_R D s N0 (fixM ad F M ++ XF) h H) (hS : va_S (x_A N0) s.heap H locs) (hl : lv_has ls 3 [(0, .ref (ad 1000)), (1, .int p1)]) (hw : wX6_readName_b24 post p1 F M s0) : W p l e rmX6_readName s m args below meth c H locs 0 0 (MQ below (x_Qc D N0 (x_Vv (qMv ad XF h post))) args s 0 0 (x_A N0)) (F0 m 24 ls [.int s0, .ref (ad 1000)]) := by
  obtain ⟨⟨hx, hb, hml, hown, hts⟩, hr, hlocks, hG, hN⟩ := id C
  unfold wX6_readName_b24 at hw
  obtain ⟨z16, hw⟩ := hw
  refine x_putX (ci := 5) (Cn := RX6) (T := TX6) (N := 55) (v := .int s0) C hR hS 0 rfl rfl in_X6 tyX6_ok nmX6 37 (by decide) q1216 (fun _ h9 => h9) rfl (x_bitN z16) (x_bitF z16) (Nat.le_of_ble_eq_true rfl) (sM_f37 ..) dX6_readName_24 (fun H locs hR hS => ?_)
  refine lv_iload_n hx hb dX6_readName_27 rfl (lv_at hl 1 rfl) ?_
  refine lv_if_ne (tgt := 43) hx hb dX6_readName_28 (by decide) (fun c17 => ?_) (fun c17 => ?_)
  · have hw := hw.2 c17
    exact kX6_readName_b43 C hR hS (lv_sub hl [0, 1] rfl) hw
  · have hw := hw.1 c17
    refine lv_aload_n hx hb dX6_readName_31 rfl (lv_at hl 0 rfl) ?_
    refine x_get (ci := 5) (Cn := RX6) (T := TX6) (N := 55) (v := .ref (ad 8)) C (hR.rdX 0 rfl) rfl in_X6 8 (by decide) q1187 (fun _ h9 => h9) rfl dX6_readName_32 ?_
    refine lv_bipush (v := 16) hx hb dX6_readName_35 (by decide) ?_
    refine lv_aload_n hx hb dX6_readName_37 rfl (lv_at hl 0 rfl) ?_
    refine lv_iconst (v := 1) hx hb dX6_readName_38 (by decide) ?_
    refine x_calli0 (x_runV (n := 1) (As := [.int 1]) C hR hS (kX6_readString l D N0 gp ad XF _ 1 (upd F 37 s0) M _ hw) (lw_V q1467 q1469 qs65 q104 q1470) rfl rfl (by decide +kernel) ⟨Nat.le_of_ble_eq_true rfl, Nat.le_of_ble_eq_true rfl⟩ (x_recv C (hR.rdX 0 rfl) rfl) rfl hl.1 rfl (Nat.le_of_ble_eq_true rfl) dX6_readName_39 ⟨Nat.le_refl _, Nat.le_refl _⟩) hS (fun r18 X1 h1 H locs hq hR hS => ?_)
    obtain ⟨F19, M19, e1, e2, hw⟩ := hq
    rw [e1, e2] at hR
    refine x_iastX (n := 17) (f := (M19 8)) C hR hS 5 rfl (by unfold vp_in; decide) (sM_a8 ..) dX6_readName_42 (fun H locs hR hS => ?_)
    exact kX6_readName_b43 C hR hS (lv_sub hl [0, 1] rfl) hw
def wX6_readName_b23 (post : (Nat → Int32) → (Nat → Nat → Int32) → Prop) (p1 : Int32) (F : (Nat → Int32)) (M : (Nat → Nat → Int32)) : Prop :=
  wX6_readName_b24 post p1 F M 0
theorem kX6_readName_b23 {post : (Nat → Int32) → (Nat → Nat → Int32) → Prop} {p1 : Int32} (C : x_C p s m args meth c cX6_readName 3 none RX6 D N0 gp) {F : (Nat → Int32)} {M : (Nat → Nat → Int32)} {H : Heap} {locs : List Loc} {ls : Array Slot} (hR : x_R D s N0 (fixM ad F M ++ XF) h H) (hS : va_S (x_A N0) s.heap H locs) (hl : lv_has ls 3 [(0, .ref (ad 1000)), (1, .int p1)]) (hw : wX6_readName_b23 post p1 F M) : W p l e rmX6_readName s m args below meth c H locs 0 0 (MQ below (x_Qc D N0 (x_Vv (qMv ad XF h post))) args s 0 0 (x_A N0)) (F0 m 23 ls [.ref (ad 1000)]) := by
  obtain ⟨⟨hx, hb, hml, hown, hts⟩, hr, hlocks, hG, hN⟩ := id C
  unfold wX6_readName_b23 at hw
  refine lv_iconst (v := 0) hx hb dX6_readName_23 (by decide) ?_
  exact kX6_readName_b24 C hR hS (lv_sub hl [0, 1] rfl) hw
end
def wX6_readName (post : (Nat → Int32) → (Nat → Nat → Int32) → Prop) (p1 : Int32) (F : (Nat → Int32)) (M : (Nat → Nat → Int32)) : Prop :=
  ((F 37) = 0 → wX6_readName_b23 post p1 F M) ∧ (¬ (F 37) = 0 → (((7 : Int32) + (F 6)) < p1 → wX6_readName_b23 post p1 F M) ∧ (¬ ((7 : Int32) + (F 6)) < p1 → wX6_readName_b24 post p1 F M 1))
theorem kX6_readName (l : Launch) (D : va_G) (N0 : Nat) (gp : Nat → Nat) (ad : Nat → Nat) (XF : x_X) (h : x_H) (p1 : Int32) (F : (Nat → Int32)) (M : (Nat → Nat → Int32)) (post : (Nat → Int32) → (Nat → Nat → Int32) → Prop) (hw : wX6_readName post p1 F M) : Met l yX6_readName (ws_ yX6_readName cX6_readName 3 none) rmX6_readName (x_Pc D N0 gp (fixM ad F M ++ XF) h [.ref (ad 1000), .int p1]) (x_Qc D N0 (x_Vv (qMv ad XF h post))) 0 0 (x_A N0) := by
  refine x_start (lv := [(0, .ref (ad 1000)), (1, .int p1)]) (by decide) rfl (Nat.le_of_ble_eq_true rfl) rfl ?_
  intro p e s m below meth c C hR ls hl
  have hS : va_S (x_A N0) s.heap s.heap [] := va_S.rf
  obtain ⟨⟨hx, hb, hml, hown, hts⟩, hr, hlocks, hG, hN⟩ := id C
  unfold wX6_readName at hw
  refine lv_aload_n hx hb dX6_readName_0 rfl (lv_at hl 0 rfl) ?_
  refine lv_aload_n hx hb dX6_readName_1 rfl (lv_at hl 0 rfl) ?_
  refine x_get (ci := 5) (Cn := RX6) (T := TX6) (N := 55) (v := .int (F 37)) C (hR.rdX 0 rfl) rfl in_X6 37 (by decide) q1216 (fun _ h9 => h9) rfl dX6_readName_2 ?_
  refine lv_if_eq (tgt := 23) hx hb dX6_readName_5 (by decide) (fun c14 => ?_) (fun c14 => ?_)
  · have hw := hw.1 c14
    exact kX6_readName_b23 C hR hS (lv_sub hl [0, 1] rfl) hw
  · have hw := hw.2 c14
    refine lv_iload_n hx hb dX6_readName_8 rfl (lv_at hl 1 rfl) ?_
    refine lv_bipush (v := 7) hx hb dX6_readName_9 (by decide) ?_
    refine lv_aload_n hx hb dX6_readName_11 rfl (lv_at hl 0 rfl) ?_
    refine x_get (ci := 5) (Cn := RX6) (T := TX6) (N := 55) (v := .int (F 6)) C (hR.rdX 0 rfl) rfl in_X6 6 (by decide) q1185 (fun _ h9 => h9) rfl dX6_readName_12 ?_
    refine lv_iadd hx hb dX6_readName_15 ?_
    refine lv_icmp_gt (tgt := 23) hx hb dX6_readName_16 (by decide) (fun c15 => ?_) (fun c15 => ?_)
    · have hw := hw.1 c15
      exact kX6_readName_b23 C hR hS (lv_sub hl [0, 1] rfl) hw
    · have hw := hw.2 c15
      refine lv_iconst (v := 1) hx hb dX6_readName_19 (by decide) ?_
      refine lv_goto (tgt := 24) hx hb dX6_readName_20 (by decide) ?_
      exact kX6_readName_b24 C hR hS (lv_sub hl [0, 1] rfl) hw
/-- PageServerModel.takes(I)I -/
abbrev rmX6_takes : Room := { frames := 0, cells := 0, slots := 0, locals := 0 }
section
variable {p : Program} {l : Launch} {e : Env} {s : State} {m : MethodId} {args : Array Value} {below : List Frame} {meth : Method} {c : Code} {D : va_G} {N0 : Nat} {gp : Nat → Nat} {ad : Nat → Nat} {XF : x_X} {h : x_H}
end
def wX6_takes (post : Int32 → Prop) (p1 : Int32) (F : (Nat → Int32)) (M : (Nat → Nat → Int32)) : Prop :=
  vp_in p1 17 ∧ vp_in p1 17 ∧ post (((2 : Int32) + ((M 8) p1.toNatClampNeg)) + ((M 10) p1.toNatClampNeg)) 
theorem kX6_takes (l : Launch) (D : va_G) (N0 : Nat) (gp : Nat → Nat) (ad : Nat → Nat) (XF : x_X) (h : x_H) (p1 : Int32) (F : (Nat → Int32)) (M : (Nat → Nat → Int32)) (post : Int32 → Prop) (hw : wX6_takes post p1 F M ) : Met l yX6_takes (ws_ yX6_takes cX6_takes 2 (some .int)) rmX6_takes (x_Pc D N0 gp (fixM ad F M ++ XF) h [.ref (ad 1000), .int p1]) (x_Qc D N0 (x_Vi (qPi (fixM ad F M ++ XF) h post))) 0 0 (x_A N0) := by
  refine x_start (lv := [(0, .ref (ad 1000)), (1, .int p1)]) (by decide) rfl (Nat.le_of_ble_eq_true rfl) rfl ?_
  intro p e s m below meth c C hR ls hl
  have hS : va_S (x_A N0) s.heap s.heap [] := va_S.rf
  obtain ⟨⟨hx, hb, hml, hown, hts⟩, hr, hlocks, hG, hN⟩ := id C
  unfold wX6_takes at hw
  refine lv_iconst (v := 2) hx hb dX6_takes_0 (by decide) ?_
  refine lv_aload_n hx hb dX6_takes_1 rfl (lv_at hl 0 rfl) ?_
  refine x_get (ci := 5) (Cn := RX6) (T := TX6) (N := 55) (v := .ref (ad 8)) C (hR.rdX 0 rfl) rfl in_X6 8 (by decide) q1187 (fun _ h9 => h9) rfl dX6_takes_2 ?_
  refine lv_iload_n hx hb dX6_takes_5 rfl (lv_at hl 1 rfl) ?_
  obtain ⟨b3, hw⟩ := hw
  refine x_iald (n := 17) (f := (M 8)) C (hR.rdX 5 rfl) b3 dX6_takes_6 ?_
  refine lv_iadd hx hb dX6_takes_7 ?_
  refine lv_aload_n hx hb dX6_takes_8 rfl (lv_at hl 0 rfl) ?_
  refine x_get (ci := 5) (Cn := RX6) (T := TX6) (N := 55) (v := .ref (ad 10)) C (hR.rdX 0 rfl) rfl in_X6 10 (by decide) q1189 (fun _ h9 => h9) rfl dX6_takes_9 ?_
  refine lv_iload_n hx hb dX6_takes_12 rfl (lv_at hl 1 rfl) ?_
  obtain ⟨b4, hw⟩ := hw
  refine x_iald (n := 17) (f := (M 10)) C (hR.rdX 7 rfl) b4 dX6_takes_13 ?_
  refine lv_iadd hx hb dX6_takes_14 ?_
  exact x_endi C hR hS ⟨_, rfl, ⟨rfl, rfl, hw⟩⟩ (Nat.le_refl _) (Nat.le_refl _) dX6_takes_15
/-- PageServerModel.taken()I -/
abbrev rmX6_taken : Room := { frames := 1, cells := 0, slots := 0, locals := 21 }
section
variable {p : Program} {l : Launch} {e : Env} {s : State} {m : MethodId} {args : Array Value} {below : List Frame} {meth : Method} {c : Code} {D : va_G} {N0 : Nat} {gp : Nat → Nat} {ad : Nat → Nat} {XF : x_X} {h : x_H}
def wX6_taken_b30 (post : Int32 → Prop) (F : (Nat → Int32)) (M : (Nat → Nat → Int32)) (x1 : Int32) : Prop :=
  post x1 
theorem kX6_taken_b30 {post : Int32 → Prop} {F : (Nat → Int32)} {M : (Nat → Nat → Int32)} (C : x_C p s m args meth c cX6_taken 3 (some .int) RX6 D N0 gp) {x1 : Int32} {H : Heap} {locs : List Loc} {ls : Array Slot} (hR : x_R D s N0 (fixM ad F M ++ XF) h H) (hS : va_S (x_A N0) s.heap H locs) (hl : lv_has ls 3 [(1, .int x1)]) (hw : wX6_taken_b30 post F M x1) : W p l e rmX6_taken s m args below meth c H locs 0 0 (MQ below (x_Qc D N0 (x_Vi (qPi (fixM ad F M ++ XF) h post))) args s 0 0 (x_A N0)) (F0 m 30 ls []) := by
  obtain ⟨⟨hx, hb, hml, hown, hts⟩, hr, hlocks, hG, hN⟩ := id C
  unfold wX6_taken_b30 at hw
  refine lv_iload_n hx hb dX6_taken_30 rfl (lv_at hl 0 rfl) ?_
  exact x_endi C hR hS ⟨_, rfl, ⟨rfl, rfl, hw⟩⟩ (Nat.le_refl _) (Nat.le_refl _) dX6_taken_31
def tX6_taken_b5 (post : Int32 → Prop) (K5 : Int32 → Int32 → Prop) (F : (Nat → Int32)) (M : (Nat → Nat → Int32)) (x1 : Int32) (x2 : Int32) : Prop :=
  (((7 : Int32) + (F 6)) ≤ x2 → wX6_taken_b30 post F M x1) ∧ (¬ ((7 : Int32) + (F 6)) ≤ x2 → wX6_takes (fun r6 => K5 (x1 + r6) (x2 + 1)) x2 F M)
def wX6_taken_b5 (post : Int32 → Prop) (F : (Nat → Int32)) (M : (Nat → Nat → Int32)) : Nat → Int32 → Int32 → Prop
  | 0 => fun _ _ => False
  | n + 1 => fun x1 x2 => tX6_taken_b5 post (wX6_taken_b5 post F M n) F M x1 x2
theorem kX6_taken_b5 {post : Int32 → Prop} {F : (Nat → Int32)} {M : (Nat → Nat → Int32)} (C : x_C p s m args meth c cX6_taken 3 (some .int) RX6 D N0 gp) : ∀ (nn : Nat) (x1 : Int32) (x2 : Int32) (H : Heap) (locs : List Loc) (ls : Array Slot), x_R D s N0 (fixM ad F M ++ XF) h H → va_S (x_A N0) s.heap H locs → lv_has ls 3 [(0, .ref (ad 1000)), (1, .int x1), (2, .int x2)] → wX6_taken_b5 post F M nn x1 x2 → W p l e rmX6_taken s m args below meth c H locs 0 0 (MQ below (x_Qc D N0 (x_Vi (qPi (fixM ad F M ++ XF) h post))) args s 0 0 (x_A N0)) (F0 m 5 ls []) := by
  obtain ⟨⟨hx, hb, hml, hown, hts⟩, hr, hlocks, hG, hN⟩ := id C
  intro nn
  induction nn with
  | zero =>
    intro x1 x2 H locs ls hR hS hl hw
    exact False.elim hw
  | succ nn ih =>
    intro x1 x2 H locs ls hR hS hl hw
    have hK5 := ih
    have hw : tX6_taken_b5 post (wX6_taken_b5 post F M nn) F M x1 x2 := hw
    unfold tX6_taken_b5 at hw
    refine lv_iload_n hx hb dX6_taken_5 rfl (lv_at hl 2 rfl) ?_
    refine lv_bipush (v := 7) hx hb dX6_taken_6 (by decide) ?_
    refine lv_aload_n hx hb dX6_taken_8 rfl (lv_at hl 0 rfl) ?_
    refine x_get (ci := 5) (Cn := RX6) (T := TX6) (N := 55) (v := .int (F 6)) C (hR.rdX 0 rfl) rfl in_X6 6 (by decide) q1185 (fun _ h9 => h9) rfl dX6_taken_9 ?_
    refine lv_iadd hx hb dX6_taken_12 ?_
    refine lv_icmp_ge (tgt := 30) hx hb dX6_taken_13 (by decide) (fun c5 => ?_) (fun c5 => ?_)
    · have hw := hw.1 c5
      exact kX6_taken_b30 C hR hS (lv_sub hl [1] rfl) hw
    · have hw := hw.2 c5
      refine lv_iload_n hx hb dX6_taken_16 rfl (lv_at hl 1 rfl) ?_
      refine lv_aload_n hx hb dX6_taken_17 rfl (lv_at hl 0 rfl) ?_
      refine lv_iload_n hx hb dX6_taken_18 rfl (lv_at hl 2 rfl) ?_
      refine x_calli0 (x_runV (n := 1) (As := [.int x2]) C hR hS (kX6_takes l D N0 gp ad XF _ x2 F M _ hw) (lw_V q1475 q1477 qs67 q104 q1478) rfl rfl (by decide +kernel) ⟨Nat.le_of_ble_eq_true rfl, Nat.le_of_ble_eq_true rfl⟩ (x_recv C (hR.rdX 0 rfl) rfl) rfl hl.1 rfl (Nat.le_of_ble_eq_true rfl) dX6_taken_19 ⟨Nat.le_refl _, Nat.le_refl _⟩) hS (fun r6 X1 h1 H locs hq hR hS => ?_)
      obtain ⟨e1, e2, hw⟩ := hq
      rw [e1, e2] at hR
      refine lv_iadd hx hb dX6_taken_22 ?_
      refine lv_istore_n (lv' := [(1, .int (x1 + r6)), (0, .ref (ad 1000)), (2, .int x2)]) hx hb dX6_taken_23 rfl hl (by decide) rfl (fun ls hl => ?_)
      refine lv_iinc (v := x2 + 1) (lv' := [(2, .int (x2 + 1)), (1, .int (x1 + r6)), (0, .ref (ad 1000))]) hx hb dX6_taken_24 hl (k := 2) rfl (x_inc 1 1 (by decide)) (by decide) rfl (fun ls hl => ?_)
      refine lv_goto (tgt := 5) hx hb dX6_taken_27 (by decide) ?_
      exact hK5 _ _ _ _ _ hR hS (lv_sub hl [2, 1, 0] rfl) hw
end
def wX6_taken (post : Int32 → Prop) (F : (Nat → Int32)) (M : (Nat → Nat → Int32)) : Prop :=
  ∃ n4 : Nat, wX6_taken_b5 post F M n4 0 7
theorem kX6_taken (l : Launch) (D : va_G) (N0 : Nat) (gp : Nat → Nat) (ad : Nat → Nat) (XF : x_X) (h : x_H) (F : (Nat → Int32)) (M : (Nat → Nat → Int32)) (post : Int32 → Prop) (hw : wX6_taken post F M ) : Met l yX6_taken (ws_ yX6_taken cX6_taken 3 (some .int)) rmX6_taken (x_Pc D N0 gp (fixM ad F M ++ XF) h [.ref (ad 1000)]) (x_Qc D N0 (x_Vi (qPi (fixM ad F M ++ XF) h post))) 0 0 (x_A N0) := by
  refine x_start (lv := [(0, .ref (ad 1000))]) (by decide) rfl (Nat.le_of_ble_eq_true rfl) rfl ?_
  intro p e s m below meth c C hR ls hl
  have hS : va_S (x_A N0) s.heap s.heap [] := va_S.rf
  obtain ⟨⟨hx, hb, hml, hown, hts⟩, hr, hlocks, hG, hN⟩ := id C
  unfold wX6_taken at hw
  refine lv_iconst (v := 0) hx hb dX6_taken_0 (by decide) ?_
  refine lv_istore_n (lv' := [(1, .int 0), (0, .ref (ad 1000))]) hx hb dX6_taken_1 rfl hl (by decide) rfl (fun ls hl => ?_)
  refine lv_bipush (v := 7) hx hb dX6_taken_2 (by decide) ?_
  refine lv_istore_n (lv' := [(2, .int 7), (1, .int 0), (0, .ref (ad 1000))]) hx hb dX6_taken_4 rfl hl (by decide) rfl (fun ls hl => ?_)
  obtain ⟨n4, hw⟩ := hw
  exact kX6_taken_b5 C n4 _ _ _ _ _ hR hS (lv_sub hl [2, 1, 0] rfl) hw
/-- PageServerModel.evict(I)V -/
abbrev rmX6_evict : Room := { frames := 2, cells := 0, slots := 0, locals := 43 }
section
variable {p : Program} {l : Launch} {e : Env} {s : State} {m : MethodId} {args : Array Value} {below : List Frame} {meth : Method} {c : Code} {D : va_G} {N0 : Nat} {gp : Nat → Nat} {ad : Nat → Nat} {XF : x_X} {h : x_H}
def wX6_evict_b33 (post : (Nat → Int32) → (Nat → Nat → Int32) → Prop) (p1 : Int32) (F : (Nat → Int32)) (M : (Nat → Nat → Int32)) : Prop :=
  post F M
theorem kX6_evict_b33 {post : (Nat → Int32) → (Nat → Nat → Int32) → Prop} {p1 : Int32} (C : x_C p s m args meth c cX6_evict 2 none RX6 D N0 gp) {F : (Nat → Int32)} {M : (Nat → Nat → Int32)} {H : Heap} {locs : List Loc} {ls : Array Slot} (hR : x_R D s N0 (fixM ad F M ++ XF) h H) (hS : va_S (x_A N0) s.heap H locs) (hl : lv_has ls 2 []) (hw : wX6_evict_b33 post p1 F M) : W p l e rmX6_evict s m args below meth c H locs 0 0 (MQ below (x_Qc D N0 (x_Vv (qMv ad XF h post))) args s 0 0 (x_A N0)) (F0 m 33 ls []) := by
  obtain ⟨⟨hx, hb, hml, hown, hts⟩, hr, hlocks, hG, hN⟩ := id C
  unfold wX6_evict_b33 at hw
  exact x_endv C hR hS ⟨rfl, ⟨_, _, rfl, rfl, hw⟩⟩ (Nat.le_refl _) (Nat.le_refl _) dX6_evict_33
def tX6_evict_b0 (post : (Nat → Int32) → (Nat → Nat → Int32) → Prop) (K0 : (Nat → Int32) → (Nat → Nat → Int32) → Prop) (p1 : Int32) (F : (Nat → Int32)) (M : (Nat → Nat → Int32)) : Prop :=
  ((F 6) ≤ 0 → wX6_evict_b33 post p1 F M) ∧ (¬ (F 6) ≤ 0 → wX6_taken (fun r7 => ((r7 + p1) ≤ (F 7) → wX6_evict_b33 post p1 F M) ∧ (¬ (r7 + p1) ≤ (F 7) → K0 (upd F 6 ((F 6) - 1)) M)) F M)
def wX6_evict_b0 (post : (Nat → Int32) → (Nat → Nat → Int32) → Prop) (p1 : Int32) : Nat → (Nat → Int32) → (Nat → Nat → Int32) → Prop
  | 0 => fun _ _ => False
  | n + 1 => fun F M => tX6_evict_b0 post (wX6_evict_b0 post p1 n) p1 F M
theorem kX6_evict_b0 {post : (Nat → Int32) → (Nat → Nat → Int32) → Prop} {p1 : Int32} (C : x_C p s m args meth c cX6_evict 2 none RX6 D N0 gp) : ∀ (nn : Nat) (F : (Nat → Int32)) (M : (Nat → Nat → Int32)) (H : Heap) (locs : List Loc) (ls : Array Slot), x_R D s N0 (fixM ad F M ++ XF) h H → va_S (x_A N0) s.heap H locs → lv_has ls 2 [(0, .ref (ad 1000)), (1, .int p1)] → wX6_evict_b0 post p1 nn F M → W p l e rmX6_evict s m args below meth c H locs 0 0 (MQ below (x_Qc D N0 (x_Vv (qMv ad XF h post))) args s 0 0 (x_A N0)) (F0 m 0 ls []) := by
  obtain ⟨⟨hx, hb, hml, hown, hts⟩, hr, hlocks, hG, hN⟩ := id C
  intro nn
  induction nn with
  | zero =>
    intro F M H locs ls hR hS hl hw
    exact False.elim hw
  | succ nn ih =>
    intro F M H locs ls hR hS hl hw
    have hK0 := ih
    have hw : tX6_evict_b0 post (wX6_evict_b0 post p1 nn) p1 F M := hw
    unfold tX6_evict_b0 at hw
    refine lv_aload_n hx hb dX6_evict_0 rfl (lv_at hl 0 rfl) ?_
    refine x_get (ci := 5) (Cn := RX6) (T := TX6) (N := 55) (v := .int (F 6)) C (hR.rdX 0 rfl) rfl in_X6 6 (by decide) q1185 (fun _ h9 => h9) rfl dX6_evict_1 ?_
    refine lv_if_le (tgt := 33) hx hb dX6_evict_4 (by decide) (fun c6 => ?_) (fun c6 => ?_)
    · have hw := hw.1 c6
      exact kX6_evict_b33 C hR hS (lv_sub hl [] rfl) hw
    · have hw := hw.2 c6
      refine lv_aload_n hx hb dX6_evict_7 rfl (lv_at hl 0 rfl) ?_
      refine x_calli0 (x_runV (n := 0) (As := []) C hR hS (kX6_taken l D N0 gp ad XF _ F M _ hw) (lw_V q1483 q1485 qs69 q104 q1486) rfl rfl (by decide +kernel) ⟨Nat.le_of_ble_eq_true rfl, Nat.le_of_ble_eq_true rfl⟩ (x_recv C (hR.rdX 0 rfl) rfl) rfl hl.1 rfl (Nat.le_of_ble_eq_true rfl) dX6_evict_8 ⟨Nat.le_refl _, Nat.le_refl _⟩) hS (fun r7 X1 h1 H locs hq hR hS => ?_)
      obtain ⟨e1, e2, hw⟩ := hq
      rw [e1, e2] at hR
      refine lv_iload_n hx hb dX6_evict_11 rfl (lv_at hl 1 rfl) ?_
      refine lv_iadd hx hb dX6_evict_12 ?_
      refine lv_aload_n hx hb dX6_evict_13 rfl (lv_at hl 0 rfl) ?_
      refine x_get (ci := 5) (Cn := RX6) (T := TX6) (N := 55) (v := .int (F 7)) C (hR.rdX 0 rfl) rfl in_X6 7 (by decide) q1186 (fun _ h9 => h9) rfl dX6_evict_14 ?_
      refine lv_icmp_le (tgt := 33) hx hb dX6_evict_17 (by decide) (fun c8 => ?_) (fun c8 => ?_)
      · have hw := hw.1 c8
        exact kX6_evict_b33 C hR hS (lv_sub hl [] rfl) hw
      · have hw := hw.2 c8
        refine lv_aload_n hx hb dX6_evict_20 rfl (lv_at hl 0 rfl) ?_
        refine lv_dup hx hb dX6_evict_21 rfl ?_
        refine x_get (ci := 5) (Cn := RX6) (T := TX6) (N := 55) (v := .int (F 6)) C (hR.rdX 0 rfl) rfl in_X6 6 (by decide) q1185 (fun _ h9 => h9) rfl dX6_evict_22 ?_
        refine lv_iconst (v := 1) hx hb dX6_evict_25 (by decide) ?_
        refine lv_isub hx hb dX6_evict_26 ?_
        refine x_putX (ci := 5) (Cn := RX6) (T := TX6) (N := 55) (v := .int ((F 6) - 1)) C hR hS 0 rfl rfl in_X6 tyX6_ok nmX6 6 (by decide) q1185 (fun _ h9 => h9) rfl rfl rfl (Nat.le_of_ble_eq_true rfl) (sM_f6 ..) dX6_evict_27 (fun H locs hR hS => ?_)
        refine lv_goto (tgt := 0) hx hb dX6_evict_30 (by decide) ?_
        exact hK0 _ _ _ _ _ hR hS (lv_sub hl [0, 1] rfl) hw
end
def wX6_evict (post : (Nat → Int32) → (Nat → Nat → Int32) → Prop) (p1 : Int32) (F : (Nat → Int32)) (M : (Nat → Nat → Int32)) : Prop :=
  ∃ n5 : Nat, wX6_evict_b0 post p1 n5 F M
theorem kX6_evict (l : Launch) (D : va_G) (N0 : Nat) (gp : Nat → Nat) (ad : Nat → Nat) (XF : x_X) (h : x_H) (p1 : Int32) (F : (Nat → Int32)) (M : (Nat → Nat → Int32)) (post : (Nat → Int32) → (Nat → Nat → Int32) → Prop) (hw : wX6_evict post p1 F M) : Met l yX6_evict (ws_ yX6_evict cX6_evict 2 none) rmX6_evict (x_Pc D N0 gp (fixM ad F M ++ XF) h [.ref (ad 1000), .int p1]) (x_Qc D N0 (x_Vv (qMv ad XF h post))) 0 0 (x_A N0) := by
  refine x_start (lv := [(0, .ref (ad 1000)), (1, .int p1)]) (by decide) rfl (Nat.le_of_ble_eq_true rfl) rfl ?_
  intro p e s m below meth c C hR ls hl
  have hS : va_S (x_A N0) s.heap s.heap [] := va_S.rf
  obtain ⟨⟨hx, hb, hml, hown, hts⟩, hr, hlocks, hG, hN⟩ := id C
  unfold wX6_evict at hw
  obtain ⟨n5, hw⟩ := hw
  exact kX6_evict_b0 C n5 _ _ _ _ _ hR hS (lv_sub hl [0, 1] rfl) hw
/-- PageServerModel.insert()V -/
abbrev rmX6_insert : Room := { frames := 3, cells := 0, slots := 0, locals := 64 }
section
variable {p : Program} {l : Launch} {e : Env} {s : State} {m : MethodId} {args : Array Value} {below : List Frame} {meth : Method} {c : Code} {D : va_G} {N0 : Nat} {gp : Nat → Nat} {ad : Nat → Nat} {XF : x_X} {h : x_H}
def wX6_insert_b52 (post : (Nat → Int32) → (Nat → Nat → Int32) → Prop)  (F : (Nat → Int32)) (M : (Nat → Nat → Int32)) : Prop :=
  wX6_copy (fun F16 M16 => post (upd F16 6 ((F16 6) + 1)) M16) 16 7 F M
theorem kX6_insert_b52 {post : (Nat → Int32) → (Nat → Nat → Int32) → Prop} (C : x_C p s m args meth c cX6_insert 2 none RX6 D N0 gp) {F : (Nat → Int32)} {M : (Nat → Nat → Int32)} {H : Heap} {locs : List Loc} {ls : Array Slot} (hR : x_R D s N0 (fixM ad F M ++ XF) h H) (hS : va_S (x_A N0) s.heap H locs) (hl : lv_has ls 2 [(0, .ref (ad 1000))]) (hw : wX6_insert_b52 post F M) : W p l e rmX6_insert s m args below meth c H locs 0 0 (MQ below (x_Qc D N0 (x_Vv (qMv ad XF h post))) args s 0 0 (x_A N0)) (F0 m 52 ls []) := by
  obtain ⟨⟨hx, hb, hml, hown, hts⟩, hr, hlocks, hG, hN⟩ := id C
  unfold wX6_insert_b52 at hw
  refine lv_aload_n hx hb dX6_insert_52 rfl (lv_at hl 0 rfl) ?_
  refine lv_bipush (v := 16) hx hb dX6_insert_53 (by decide) ?_
  refine lv_bipush (v := 7) hx hb dX6_insert_55 (by decide) ?_
  refine x_callv0 (x_runV (n := 2) (As := [.int 16, .int 7]) C hR hS (kX6_copy l D N0 gp ad XF _ 16 7 F M _ hw) (lw_V q1459 q1461 qs63 q104 q1462) rfl rfl (by decide +kernel) ⟨Nat.le_of_ble_eq_true rfl, Nat.le_of_ble_eq_true rfl⟩ (x_recv C (hR.rdX 0 rfl) rfl) rfl hl.1 rfl (Nat.le_of_ble_eq_true rfl) dX6_insert_57 ⟨Nat.le_refl _, Nat.le_refl _⟩) hS (fun X1 h1 H locs hq hR hS => ?_)
  obtain ⟨F16, M16, e1, e2, hw⟩ := hq
  rw [e1, e2] at hR
  refine lv_aload_n hx hb dX6_insert_60 rfl (lv_at hl 0 rfl) ?_
  refine lv_dup hx hb dX6_insert_61 rfl ?_
  refine x_get (ci := 5) (Cn := RX6) (T := TX6) (N := 55) (v := .int (F16 6)) C (hR.rdX 0 rfl) rfl in_X6 6 (by decide) q1185 (fun _ h9 => h9) rfl dX6_insert_62 ?_
  refine lv_iconst (v := 1) hx hb dX6_insert_65 (by decide) ?_
  refine lv_iadd hx hb dX6_insert_66 ?_
  refine x_putX (ci := 5) (Cn := RX6) (T := TX6) (N := 55) (v := .int ((F16 6) + 1)) C hR hS 0 rfl rfl in_X6 tyX6_ok nmX6 6 (by decide) q1185 (fun _ h9 => h9) rfl rfl rfl (Nat.le_of_ble_eq_true rfl) (sM_f6 ..) dX6_insert_67 (fun H locs hR hS => ?_)
  exact x_endv C hR hS ⟨rfl, ⟨_, _, rfl, rfl, hw⟩⟩ (Nat.le_refl _) (Nat.le_refl _) dX6_insert_70
def tX6_insert_b32 (post : (Nat → Int32) → (Nat → Nat → Int32) → Prop) (K32 : (Nat → Int32) → (Nat → Nat → Int32) → Int32 → Prop)  (F : (Nat → Int32)) (M : (Nat → Nat → Int32)) (x1 : Int32) : Prop :=
  (x1 < 7 → wX6_insert_b52 post F M) ∧ (¬ x1 < 7 → wX6_copy (fun F15 M15 => K32 F15 M15 (x1 + (-1))) x1 (x1 + 1) F M)
def wX6_insert_b32 (post : (Nat → Int32) → (Nat → Nat → Int32) → Prop)  : Nat → (Nat → Int32) → (Nat → Nat → Int32) → Int32 → Prop
  | 0 => fun _ _ _ => False
  | n + 1 => fun F M x1 => tX6_insert_b32 post (wX6_insert_b32 post n)  F M x1
theorem kX6_insert_b32 {post : (Nat → Int32) → (Nat → Nat → Int32) → Prop} (C : x_C p s m args meth c cX6_insert 2 none RX6 D N0 gp) : ∀ (nn : Nat) (F : (Nat → Int32)) (M : (Nat → Nat → Int32)) (x1 : Int32) (H : Heap) (locs : List Loc) (ls : Array Slot), x_R D s N0 (fixM ad F M ++ XF) h H → va_S (x_A N0) s.heap H locs → lv_has ls 2 [(0, .ref (ad 1000)), (1, .int x1)] → wX6_insert_b32 post nn F M x1 → W p l e rmX6_insert s m args below meth c H locs 0 0 (MQ below (x_Qc D N0 (x_Vv (qMv ad XF h post))) args s 0 0 (x_A N0)) (F0 m 32 ls []) := by
  obtain ⟨⟨hx, hb, hml, hown, hts⟩, hr, hlocks, hG, hN⟩ := id C
  intro nn
  induction nn with
  | zero =>
    intro F M x1 H locs ls hR hS hl hw
    exact False.elim hw
  | succ nn ih =>
    intro F M x1 H locs ls hR hS hl hw
    have hK32 := ih
    have hw : tX6_insert_b32 post (wX6_insert_b32 post nn)  F M x1 := hw
    unfold tX6_insert_b32 at hw
    refine lv_iload_n hx hb dX6_insert_32 rfl (lv_at hl 1 rfl) ?_
    refine lv_bipush (v := 7) hx hb dX6_insert_33 (by decide) ?_
    refine lv_icmp_lt (tgt := 52) hx hb dX6_insert_35 (by decide) (fun c14 => ?_) (fun c14 => ?_)
    · have hw := hw.1 c14
      exact kX6_insert_b52 C hR hS (lv_sub hl [0] rfl) hw
    · have hw := hw.2 c14
      refine lv_aload_n hx hb dX6_insert_38 rfl (lv_at hl 0 rfl) ?_
      refine lv_iload_n hx hb dX6_insert_39 rfl (lv_at hl 1 rfl) ?_
      refine lv_iload_n hx hb dX6_insert_40 rfl (lv_at hl 1 rfl) ?_
      refine lv_iconst (v := 1) hx hb dX6_insert_41 (by decide) ?_
      refine lv_iadd hx hb dX6_insert_42 ?_
      refine x_callv0 (x_runV (n := 2) (As := [.int x1, .int (x1 + 1)]) C hR hS (kX6_copy l D N0 gp ad XF _ x1 (x1 + 1) F M _ hw) (lw_V q1459 q1461 qs63 q104 q1462) rfl rfl (by decide +kernel) ⟨Nat.le_of_ble_eq_true rfl, Nat.le_of_ble_eq_true rfl⟩ (x_recv C (hR.rdX 0 rfl) rfl) rfl hl.1 rfl (Nat.le_of_ble_eq_true rfl) dX6_insert_43 ⟨Nat.le_refl _, Nat.le_refl _⟩) hS (fun X1 h1 H locs hq hR hS => ?_)
      obtain ⟨F15, M15, e1, e2, hw⟩ := hq
      rw [e1, e2] at hR
      refine lv_iinc (v := x1 + (-1)) (lv' := [(1, .int (x1 + (-1))), (0, .ref (ad 1000))]) hx hb dX6_insert_46 hl (k := 1) rfl (x_inc (-1) (-1) (by decide)) (by decide) rfl (fun ls hl => ?_)
      refine lv_goto (tgt := 32) hx hb dX6_insert_49 (by decide) ?_
      exact hK32 _ _ _ _ _ _ hR hS (lv_sub hl [1, 0] rfl) hw
end
def wX6_insert (post : (Nat → Int32) → (Nat → Nat → Int32) → Prop)  (F : (Nat → Int32)) (M : (Nat → Nat → Int32)) : Prop :=
  wX6_takes (fun r9 => wX6_evict (fun F10 M10 => wX6_takes (fun r11 => (r11 ≤ (F10 7) → ∃ n13 : Nat, wX6_insert_b32 post n13 F10 M10 ((6 : Int32) + (F10 6))) ∧ (¬ r11 ≤ (F10 7) → post F10 M10)) 16 F10 M10) r9 F M) 16 F M
theorem kX6_insert (l : Launch) (D : va_G) (N0 : Nat) (gp : Nat → Nat) (ad : Nat → Nat) (XF : x_X) (h : x_H)  (F : (Nat → Int32)) (M : (Nat → Nat → Int32)) (post : (Nat → Int32) → (Nat → Nat → Int32) → Prop) (hw : wX6_insert post  F M) : Met l yX6_insert (ws_ yX6_insert cX6_insert 2 none) rmX6_insert (x_Pc D N0 gp (fixM ad F M ++ XF) h [.ref (ad 1000)]) (x_Qc D N0 (x_Vv (qMv ad XF h post))) 0 0 (x_A N0) := by
  refine x_start (lv := [(0, .ref (ad 1000))]) (by decide) rfl (Nat.le_of_ble_eq_true rfl) rfl ?_
  intro p e s m below meth c C hR ls hl
  have hS : va_S (x_A N0) s.heap s.heap [] := va_S.rf
  obtain ⟨⟨hx, hb, hml, hown, hts⟩, hr, hlocks, hG, hN⟩ := id C
  unfold wX6_insert at hw
  refine lv_aload_n hx hb dX6_insert_0 rfl (lv_at hl 0 rfl) ?_
  refine lv_aload_n hx hb dX6_insert_1 rfl (lv_at hl 0 rfl) ?_
  refine lv_bipush (v := 16) hx hb dX6_insert_2 (by decide) ?_
  refine x_calli0 (x_runV (n := 1) (As := [.int 16]) C hR hS (kX6_takes l D N0 gp ad XF _ 16 F M _ hw) (lw_V q1475 q1477 qs67 q104 q1478) rfl rfl (by decide +kernel) ⟨Nat.le_of_ble_eq_true rfl, Nat.le_of_ble_eq_true rfl⟩ (x_recv C (hR.rdX 0 rfl) rfl) rfl hl.1 rfl (Nat.le_of_ble_eq_true rfl) dX6_insert_4 ⟨Nat.le_refl _, Nat.le_refl _⟩) hS (fun r9 X1 h1 H locs hq hR hS => ?_)
  obtain ⟨e1, e2, hw⟩ := hq
  rw [e1, e2] at hR
  refine x_callv0 (x_runV (n := 1) (As := [.int r9]) C hR hS (kX6_evict l D N0 gp ad XF _ r9 F M _ hw) (lw_V q1479 q1481 qs68 q104 q1482) rfl rfl (by decide +kernel) ⟨Nat.le_of_ble_eq_true rfl, Nat.le_of_ble_eq_true rfl⟩ (x_recv C (hR.rdX 0 rfl) rfl) rfl hl.1 rfl (Nat.le_of_ble_eq_true rfl) dX6_insert_7 ⟨Nat.le_refl _, Nat.le_refl _⟩) hS (fun X1 h1 H locs hq hR hS => ?_)
  obtain ⟨F10, M10, e1, e2, hw⟩ := hq
  rw [e1, e2] at hR
  refine lv_aload_n hx hb dX6_insert_10 rfl (lv_at hl 0 rfl) ?_
  refine lv_bipush (v := 16) hx hb dX6_insert_11 (by decide) ?_
  refine x_calli0 (x_runV (n := 1) (As := [.int 16]) C hR hS (kX6_takes l D N0 gp ad XF _ 16 F10 M10 _ hw) (lw_V q1475 q1477 qs67 q104 q1478) rfl rfl (by decide +kernel) ⟨Nat.le_of_ble_eq_true rfl, Nat.le_of_ble_eq_true rfl⟩ (x_recv C (hR.rdX 0 rfl) rfl) rfl hl.1 rfl (Nat.le_of_ble_eq_true rfl) dX6_insert_13 ⟨Nat.le_refl _, Nat.le_refl _⟩) hS (fun r11 X1 h1 H locs hq hR hS => ?_)
  obtain ⟨e1, e2, hw⟩ := hq
  rw [e1, e2] at hR
  refine lv_aload_n hx hb dX6_insert_16 rfl (lv_at hl 0 rfl) ?_
  refine x_get (ci := 5) (Cn := RX6) (T := TX6) (N := 55) (v := .int (F10 7)) C (hR.rdX 0 rfl) rfl in_X6 7 (by decide) q1186 (fun _ h9 => h9) rfl dX6_insert_17 ?_
  refine lv_icmp_le (tgt := 24) hx hb dX6_insert_20 (by decide) (fun c12 => ?_) (fun c12 => ?_)
  · have hw := hw.1 c12
    refine lv_bipush (v := 6) hx hb dX6_insert_24 (by decide) ?_
    refine lv_aload_n hx hb dX6_insert_26 rfl (lv_at hl 0 rfl) ?_
    refine x_get (ci := 5) (Cn := RX6) (T := TX6) (N := 55) (v := .int (F10 6)) C (hR.rdX 0 rfl) rfl in_X6 6 (by decide) q1185 (fun _ h9 => h9) rfl dX6_insert_27 ?_
    refine lv_iadd hx hb dX6_insert_30 ?_
    refine lv_istore_n (lv' := [(1, .int ((6 : Int32) + (F10 6))), (0, .ref (ad 1000))]) hx hb dX6_insert_31 rfl hl (by decide) rfl (fun ls hl => ?_)
    obtain ⟨n13, hw⟩ := hw
    exact kX6_insert_b32 C n13 _ _ _ _ _ _ hR hS (lv_sub hl [1, 0] rfl) hw
  · have hw := hw.2 c12
    exact x_endv C hR hS ⟨rfl, ⟨_, _, rfl, rfl, hw⟩⟩ (Nat.le_refl _) (Nat.le_refl _) dX6_insert_23
/-- PageServerModel.isNamed(II)Z -/
abbrev rmX6_isNamed : Room := { frames := 0, cells := 0, slots := 0, locals := 0 }
section
variable {p : Program} {l : Launch} {e : Env} {s : State} {m : MethodId} {args : Array Value} {below : List Frame} {meth : Method} {c : Code} {D : va_G} {N0 : Nat} {gp : Nat → Nat} {ad : Nat → Nat} {XF : x_X} {h : x_H}
def wX6_isNamed_b44 (post : Int32 → Prop) (p1 : Int32) (p2 : Int32) (F : (Nat → Int32)) (M : (Nat → Nat → Int32)) (s0 : Int32) : Prop :=
  narrow .boolean (.int s0) = .int s0 ∧ post s0 
theorem kX6_isNamed_b44 {post : Int32 → Prop} {p1 : Int32} {p2 : Int32} {F : (Nat → Int32)} {M : (Nat → Nat → Int32)} (C : x_C p s m args meth c cX6_isNamed 3 (some .boolean) RX6 D N0 gp) {s0 : Int32} {H : Heap} {locs : List Loc} {ls : Array Slot} (hR : x_R D s N0 (fixM ad F M ++ XF) h H) (hS : va_S (x_A N0) s.heap H locs) (hl : lv_has ls 3 []) (hw : wX6_isNamed_b44 post p1 p2 F M s0) : W p l e rmX6_isNamed s m args below meth c H locs 0 0 (MQ below (x_Qc D N0 (x_Vi (qPi (fixM ad F M ++ XF) h post))) args s 0 0 (x_A N0)) (F0 m 44 ls [.int s0]) := by
  obtain ⟨⟨hx, hb, hml, hown, hts⟩, hr, hlocks, hG, hN⟩ := id C
  unfold wX6_isNamed_b44 at hw
  obtain ⟨hz, hw⟩ := hw
  exact x_endz C hR hS hz ⟨_, rfl, ⟨rfl, rfl, hw⟩⟩ (Nat.le_refl _) (Nat.le_refl _) dX6_isNamed_44
def wX6_isNamed_b43 (post : Int32 → Prop) (p1 : Int32) (p2 : Int32) (F : (Nat → Int32)) (M : (Nat → Nat → Int32)) : Prop :=
  wX6_isNamed_b44 post p1 p2 F M 0
theorem kX6_isNamed_b43 {post : Int32 → Prop} {p1 : Int32} {p2 : Int32} {F : (Nat → Int32)} {M : (Nat → Nat → Int32)} (C : x_C p s m args meth c cX6_isNamed 3 (some .boolean) RX6 D N0 gp) {H : Heap} {locs : List Loc} {ls : Array Slot} (hR : x_R D s N0 (fixM ad F M ++ XF) h H) (hS : va_S (x_A N0) s.heap H locs) (hl : lv_has ls 3 []) (hw : wX6_isNamed_b43 post p1 p2 F M ) : W p l e rmX6_isNamed s m args below meth c H locs 0 0 (MQ below (x_Qc D N0 (x_Vi (qPi (fixM ad F M ++ XF) h post))) args s 0 0 (x_A N0)) (F0 m 43 ls []) := by
  obtain ⟨⟨hx, hb, hml, hown, hts⟩, hr, hlocks, hG, hN⟩ := id C
  unfold wX6_isNamed_b43 at hw
  refine lv_iconst (v := 0) hx hb dX6_isNamed_43 (by decide) ?_
  exact kX6_isNamed_b44 C hR hS (lv_sub hl [] rfl) hw
end
def wX6_isNamed (post : Int32 → Prop) (p1 : Int32) (p2 : Int32) (F : (Nat → Int32)) (M : (Nat → Nat → Int32)) : Prop :=
  vp_in p1 17 ∧ (((M 8) p1.toNatClampNeg) = 2 → vp_in ((20 : Int32) * p1) 340 ∧ (((M 9) ((20 : Int32) * p1).toNatClampNeg) = 58 → vp_in (((20 : Int32) * p1) + 1) 340 ∧ (((M 9) (((20 : Int32) * p1) + 1).toNatClampNeg) = p2 → wX6_isNamed_b44 post p1 p2 F M 1) ∧ (¬ ((M 9) (((20 : Int32) * p1) + 1).toNatClampNeg) = p2 → wX6_isNamed_b43 post p1 p2 F M )) ∧ (¬ ((M 9) ((20 : Int32) * p1).toNatClampNeg) = 58 → wX6_isNamed_b43 post p1 p2 F M )) ∧ (¬ ((M 8) p1.toNatClampNeg) = 2 → wX6_isNamed_b43 post p1 p2 F M )
theorem kX6_isNamed (l : Launch) (D : va_G) (N0 : Nat) (gp : Nat → Nat) (ad : Nat → Nat) (XF : x_X) (h : x_H) (p1 : Int32) (p2 : Int32) (F : (Nat → Int32)) (M : (Nat → Nat → Int32)) (post : Int32 → Prop) (hw : wX6_isNamed post p1 p2 F M ) : Met l yX6_isNamed (ws_ yX6_isNamed cX6_isNamed 3 (some .boolean)) rmX6_isNamed (x_Pc D N0 gp (fixM ad F M ++ XF) h [.ref (ad 1000), .int p1, .int p2]) (x_Qc D N0 (x_Vi (qPi (fixM ad F M ++ XF) h post))) 0 0 (x_A N0) := by
  refine x_start (lv := [(0, .ref (ad 1000)), (1, .int p1), (2, .int p2)]) (by decide) rfl (Nat.le_of_ble_eq_true rfl) rfl ?_
  intro p e s m below meth c C hR ls hl
  have hS : va_S (x_A N0) s.heap s.heap [] := va_S.rf
  obtain ⟨⟨hx, hb, hml, hown, hts⟩, hr, hlocks, hG, hN⟩ := id C
  unfold wX6_isNamed at hw
  refine lv_aload_n hx hb dX6_isNamed_0 rfl (lv_at hl 0 rfl) ?_
  refine x_get (ci := 5) (Cn := RX6) (T := TX6) (N := 55) (v := .ref (ad 8)) C (hR.rdX 0 rfl) rfl in_X6 8 (by decide) q1187 (fun _ h9 => h9) rfl dX6_isNamed_1 ?_
  refine lv_iload_n hx hb dX6_isNamed_4 rfl (lv_at hl 1 rfl) ?_
  obtain ⟨b7, hw⟩ := hw
  refine x_iald (n := 17) (f := (M 8)) C (hR.rdX 5 rfl) b7 dX6_isNamed_5 ?_
  refine lv_iconst (v := 2) hx hb dX6_isNamed_6 (by decide) ?_
  refine lv_icmp_ne (tgt := 43) hx hb dX6_isNamed_7 (by decide) (fun c8 => ?_) (fun c8 => ?_)
  · have hw := hw.2 c8
    exact kX6_isNamed_b43 C hR hS (lv_sub hl [] rfl) hw
  · have hw := hw.1 c8
    refine lv_aload_n hx hb dX6_isNamed_10 rfl (lv_at hl 0 rfl) ?_
    refine x_get (ci := 5) (Cn := RX6) (T := TX6) (N := 55) (v := .ref (ad 9)) C (hR.rdX 0 rfl) rfl in_X6 9 (by decide) q1188 (fun _ h9 => h9) rfl dX6_isNamed_11 ?_
    refine lv_bipush (v := 20) hx hb dX6_isNamed_14 (by decide) ?_
    refine lv_iload_n hx hb dX6_isNamed_16 rfl (lv_at hl 1 rfl) ?_
    refine lv_imul hx hb dX6_isNamed_17 ?_
    obtain ⟨b9, hw⟩ := hw
    refine x_cald (n := 340) (f := (M 9)) C (hR.rdX 6 rfl) b9 dX6_isNamed_18 ?_
    refine lv_bipush (v := 58) hx hb dX6_isNamed_19 (by decide) ?_
    refine lv_icmp_ne (tgt := 43) hx hb dX6_isNamed_21 (by decide) (fun c10 => ?_) (fun c10 => ?_)
    · have hw := hw.2 c10
      exact kX6_isNamed_b43 C hR hS (lv_sub hl [] rfl) hw
    · have hw := hw.1 c10
      refine lv_aload_n hx hb dX6_isNamed_24 rfl (lv_at hl 0 rfl) ?_
      refine x_get (ci := 5) (Cn := RX6) (T := TX6) (N := 55) (v := .ref (ad 9)) C (hR.rdX 0 rfl) rfl in_X6 9 (by decide) q1188 (fun _ h9 => h9) rfl dX6_isNamed_25 ?_
      refine lv_bipush (v := 20) hx hb dX6_isNamed_28 (by decide) ?_
      refine lv_iload_n hx hb dX6_isNamed_30 rfl (lv_at hl 1 rfl) ?_
      refine lv_imul hx hb dX6_isNamed_31 ?_
      refine lv_iconst (v := 1) hx hb dX6_isNamed_32 (by decide) ?_
      refine lv_iadd hx hb dX6_isNamed_33 ?_
      obtain ⟨b11, hw⟩ := hw
      refine x_cald (n := 340) (f := (M 9)) C (hR.rdX 6 rfl) b11 dX6_isNamed_34 ?_
      refine lv_iload_n hx hb dX6_isNamed_35 rfl (lv_at hl 2 rfl) ?_
      refine lv_icmp_ne (tgt := 43) hx hb dX6_isNamed_36 (by decide) (fun c12 => ?_) (fun c12 => ?_)
      · have hw := hw.2 c12
        exact kX6_isNamed_b43 C hR hS (lv_sub hl [] rfl) hw
      · have hw := hw.1 c12
        refine lv_iconst (v := 1) hx hb dX6_isNamed_39 (by decide) ?_
        refine lv_goto (tgt := 44) hx hb dX6_isNamed_40 (by decide) ?_
        exact kX6_isNamed_b44 C hR hS (lv_sub hl [] rfl) hw
/-- PageServerModel.methodOf()I -/
abbrev rmX6_methodOf : Room := { frames := 0, cells := 0, slots := 0, locals := 0 }
section
variable {p : Program} {l : Launch} {e : Env} {s : State} {m : MethodId} {args : Array Value} {below : List Frame} {meth : Method} {c : Code} {D : va_G} {N0 : Nat} {gp : Nat → Nat} {ad : Nat → Nat} {XF : x_X} {h : x_H}
def wX6_methodOf_b106 (post : Int32 → Prop) (K36 : Int32 → Int32 → Int32 → Prop) (F : (Nat → Int32)) (M : (Nat → Nat → Int32)) (x1 : Int32) (x3 : Int32) (s0 : Int32) : Prop :=
  K36 x1 s0 (x3 + 1)
theorem kX6_methodOf_b106 {post : Int32 → Prop} {K36 : Int32 → Int32 → Int32 → Prop} {F : (Nat → Int32)} {M : (Nat → Nat → Int32)} (C : x_C p s m args meth c cX6_methodOf 4 (some .int) RX6 D N0 gp) (hK36 : ∀ (x1 : Int32) (x2 : Int32) (x3 : Int32) (H : Heap) (locs : List Loc) (ls : Array Slot), x_R D s N0 (fixM ad F M ++ XF) h H → va_S (x_A N0) s.heap H locs → lv_has ls 4 [(0, .ref (ad 1000)), (1, .int x1), (2, .int x2), (3, .int x3)] → K36 x1 x2 x3 → W p l e rmX6_methodOf s m args below meth c H locs 0 0 (MQ below (x_Qc D N0 (x_Vi (qPi (fixM ad F M ++ XF) h post))) args s 0 0 (x_A N0)) (F0 m 36 ls [])) {x1 : Int32} {x3 : Int32} {s0 : Int32} {H : Heap} {locs : List Loc} {ls : Array Slot} (hR : x_R D s N0 (fixM ad F M ++ XF) h H) (hS : va_S (x_A N0) s.heap H locs) (hl : lv_has ls 4 [(0, .ref (ad 1000)), (1, .int x1), (3, .int x3)]) (hw : wX6_methodOf_b106 post K36 F M x1 x3 s0) : W p l e rmX6_methodOf s m args below meth c H locs 0 0 (MQ below (x_Qc D N0 (x_Vi (qPi (fixM ad F M ++ XF) h post))) args s 0 0 (x_A N0)) (F0 m 106 ls [.int s0]) := by
  obtain ⟨⟨hx, hb, hml, hown, hts⟩, hr, hlocks, hG, hN⟩ := id C
  unfold wX6_methodOf_b106 at hw
  refine lv_istore_n (lv' := [(2, .int s0), (0, .ref (ad 1000)), (1, .int x1), (3, .int x3)]) hx hb dX6_methodOf_106 rfl hl (by decide) rfl (fun ls hl => ?_)
  refine lv_iinc (v := x3 + 1) (lv' := [(3, .int (x3 + 1)), (2, .int s0), (0, .ref (ad 1000)), (1, .int x1)]) hx hb dX6_methodOf_107 hl (k := 3) rfl (x_inc 1 1 (by decide)) (by decide) rfl (fun ls hl => ?_)
  refine lv_goto (tgt := 36) hx hb dX6_methodOf_110 (by decide) ?_
  exact hK36 _ _ _ _ _ _ hR hS (lv_sub hl [2, 3, 1, 0] rfl) hw
def wX6_methodOf_b105 (post : Int32 → Prop) (K36 : Int32 → Int32 → Int32 → Prop) (F : (Nat → Int32)) (M : (Nat → Nat → Int32)) (x1 : Int32) (x3 : Int32) : Prop :=
  wX6_methodOf_b106 post K36 F M x1 x3 0
theorem kX6_methodOf_b105 {post : Int32 → Prop} {K36 : Int32 → Int32 → Int32 → Prop} {F : (Nat → Int32)} {M : (Nat → Nat → Int32)} (C : x_C p s m args meth c cX6_methodOf 4 (some .int) RX6 D N0 gp) (hK36 : ∀ (x1 : Int32) (x2 : Int32) (x3 : Int32) (H : Heap) (locs : List Loc) (ls : Array Slot), x_R D s N0 (fixM ad F M ++ XF) h H → va_S (x_A N0) s.heap H locs → lv_has ls 4 [(0, .ref (ad 1000)), (1, .int x1), (2, .int x2), (3, .int x3)] → K36 x1 x2 x3 → W p l e rmX6_methodOf s m args below meth c H locs 0 0 (MQ below (x_Qc D N0 (x_Vi (qPi (fixM ad F M ++ XF) h post))) args s 0 0 (x_A N0)) (F0 m 36 ls [])) {x1 : Int32} {x3 : Int32} {H : Heap} {locs : List Loc} {ls : Array Slot} (hR : x_R D s N0 (fixM ad F M ++ XF) h H) (hS : va_S (x_A N0) s.heap H locs) (hl : lv_has ls 4 [(0, .ref (ad 1000)), (1, .int x1), (3, .int x3)]) (hw : wX6_methodOf_b105 post K36 F M x1 x3) : W p l e rmX6_methodOf s m args below meth c H locs 0 0 (MQ below (x_Qc D N0 (x_Vi (qPi (fixM ad F M ++ XF) h post))) args s 0 0 (x_A N0)) (F0 m 105 ls []) := by
  obtain ⟨⟨hx, hb, hml, hown, hts⟩, hr, hlocks, hG, hN⟩ := id C
  unfold wX6_methodOf_b105 at hw
  refine lv_iconst (v := 0) hx hb dX6_methodOf_105 (by decide) ?_
  exact kX6_methodOf_b106 C hK36 hR hS (lv_sub hl [0, 1, 2] rfl) hw
def wX6_methodOf_b74 (post : Int32 → Prop) (K36 : Int32 → Int32 → Int32 → Prop) (F : (Nat → Int32)) (M : (Nat → Nat → Int32)) (x2 : Int32) (x3 : Int32) (s0 : Int32) : Prop :=
  (x2 = 0 → wX6_methodOf_b105 post K36 F M s0 x3) ∧ (¬ x2 = 0 → vp_in ((320 : Int32) + x3) 340 ∧ vp_in ((20 : Int32) + x3) 340 ∧ (((M 11) ((320 : Int32) + x3).toNatClampNeg) = ((M 11) ((20 : Int32) + x3).toNatClampNeg) → wX6_methodOf_b106 post K36 F M s0 x3 1) ∧ (¬ ((M 11) ((320 : Int32) + x3).toNatClampNeg) = ((M 11) ((20 : Int32) + x3).toNatClampNeg) → wX6_methodOf_b105 post K36 F M s0 x3))
theorem kX6_methodOf_b74 {post : Int32 → Prop} {K36 : Int32 → Int32 → Int32 → Prop} {F : (Nat → Int32)} {M : (Nat → Nat → Int32)} (C : x_C p s m args meth c cX6_methodOf 4 (some .int) RX6 D N0 gp) (hK36 : ∀ (x1 : Int32) (x2 : Int32) (x3 : Int32) (H : Heap) (locs : List Loc) (ls : Array Slot), x_R D s N0 (fixM ad F M ++ XF) h H → va_S (x_A N0) s.heap H locs → lv_has ls 4 [(0, .ref (ad 1000)), (1, .int x1), (2, .int x2), (3, .int x3)] → K36 x1 x2 x3 → W p l e rmX6_methodOf s m args below meth c H locs 0 0 (MQ below (x_Qc D N0 (x_Vi (qPi (fixM ad F M ++ XF) h post))) args s 0 0 (x_A N0)) (F0 m 36 ls [])) {x2 : Int32} {x3 : Int32} {s0 : Int32} {H : Heap} {locs : List Loc} {ls : Array Slot} (hR : x_R D s N0 (fixM ad F M ++ XF) h H) (hS : va_S (x_A N0) s.heap H locs) (hl : lv_has ls 4 [(0, .ref (ad 1000)), (2, .int x2), (3, .int x3)]) (hw : wX6_methodOf_b74 post K36 F M x2 x3 s0) : W p l e rmX6_methodOf s m args below meth c H locs 0 0 (MQ below (x_Qc D N0 (x_Vi (qPi (fixM ad F M ++ XF) h post))) args s 0 0 (x_A N0)) (F0 m 74 ls [.int s0]) := by
  obtain ⟨⟨hx, hb, hml, hown, hts⟩, hr, hlocks, hG, hN⟩ := id C
  unfold wX6_methodOf_b74 at hw
  refine lv_istore_n (lv' := [(1, .int s0), (0, .ref (ad 1000)), (2, .int x2), (3, .int x3)]) hx hb dX6_methodOf_74 rfl hl (by decide) rfl (fun ls hl => ?_)
  refine lv_iload_n hx hb dX6_methodOf_75 rfl (lv_at hl 2 rfl) ?_
  refine lv_if_eq (tgt := 105) hx hb dX6_methodOf_76 (by decide) (fun c25 => ?_) (fun c25 => ?_)
  · have hw := hw.1 c25
    exact kX6_methodOf_b105 C hK36 hR hS (lv_sub hl [1, 0, 3] rfl) hw
  · have hw := hw.2 c25
    refine lv_aload_n hx hb dX6_methodOf_79 rfl (lv_at hl 1 rfl) ?_
    refine x_get (ci := 5) (Cn := RX6) (T := TX6) (N := 55) (v := .ref (ad 11)) C (hR.rdX 0 rfl) rfl in_X6 11 (by decide) q1190 (fun _ h9 => h9) rfl dX6_methodOf_80 ?_
    refine lv_sipush (v := 320) hx hb dX6_methodOf_83 (by decide) ?_
    refine lv_iload_n hx hb dX6_methodOf_86 rfl (lv_at hl 3 rfl) ?_
    refine lv_iadd hx hb dX6_methodOf_87 ?_
    obtain ⟨b26, hw⟩ := hw
    refine x_cald (n := 340) (f := (M 11)) C (hR.rdX 8 rfl) b26 dX6_methodOf_88 ?_
    refine lv_aload_n hx hb dX6_methodOf_89 rfl (lv_at hl 1 rfl) ?_
    refine x_get (ci := 5) (Cn := RX6) (T := TX6) (N := 55) (v := .ref (ad 11)) C (hR.rdX 0 rfl) rfl in_X6 11 (by decide) q1190 (fun _ h9 => h9) rfl dX6_methodOf_90 ?_
    refine lv_bipush (v := 20) hx hb dX6_methodOf_93 (by decide) ?_
    refine lv_iload_n hx hb dX6_methodOf_95 rfl (lv_at hl 3 rfl) ?_
    refine lv_iadd hx hb dX6_methodOf_96 ?_
    obtain ⟨b27, hw⟩ := hw
    refine x_cald (n := 340) (f := (M 11)) C (hR.rdX 8 rfl) b27 dX6_methodOf_97 ?_
    refine lv_icmp_ne (tgt := 105) hx hb dX6_methodOf_98 (by decide) (fun c28 => ?_) (fun c28 => ?_)
    · have hw := hw.2 c28
      exact kX6_methodOf_b105 C hK36 hR hS (lv_sub hl [1, 0, 3] rfl) hw
    · have hw := hw.1 c28
      refine lv_iconst (v := 1) hx hb dX6_methodOf_101 (by decide) ?_
      refine lv_goto (tgt := 106) hx hb dX6_methodOf_102 (by decide) ?_
      exact kX6_methodOf_b106 C hK36 hR hS (lv_sub hl [1, 0, 3] rfl) hw
def wX6_methodOf_b69 (post : Int32 → Prop) (K36 : Int32 → Int32 → Int32 → Prop) (F : (Nat → Int32)) (M : (Nat → Nat → Int32)) (x2 : Int32) (x3 : Int32) : Prop :=
  wX6_methodOf_b74 post K36 F M x2 x3 1
theorem kX6_methodOf_b69 {post : Int32 → Prop} {K36 : Int32 → Int32 → Int32 → Prop} {F : (Nat → Int32)} {M : (Nat → Nat → Int32)} (C : x_C p s m args meth c cX6_methodOf 4 (some .int) RX6 D N0 gp) (hK36 : ∀ (x1 : Int32) (x2 : Int32) (x3 : Int32) (H : Heap) (locs : List Loc) (ls : Array Slot), x_R D s N0 (fixM ad F M ++ XF) h H → va_S (x_A N0) s.heap H locs → lv_has ls 4 [(0, .ref (ad 1000)), (1, .int x1), (2, .int x2), (3, .int x3)] → K36 x1 x2 x3 → W p l e rmX6_methodOf s m args below meth c H locs 0 0 (MQ below (x_Qc D N0 (x_Vi (qPi (fixM ad F M ++ XF) h post))) args s 0 0 (x_A N0)) (F0 m 36 ls [])) {x2 : Int32} {x3 : Int32} {H : Heap} {locs : List Loc} {ls : Array Slot} (hR : x_R D s N0 (fixM ad F M ++ XF) h H) (hS : va_S (x_A N0) s.heap H locs) (hl : lv_has ls 4 [(0, .ref (ad 1000)), (2, .int x2), (3, .int x3)]) (hw : wX6_methodOf_b69 post K36 F M x2 x3) : W p l e rmX6_methodOf s m args below meth c H locs 0 0 (MQ below (x_Qc D N0 (x_Vi (qPi (fixM ad F M ++ XF) h post))) args s 0 0 (x_A N0)) (F0 m 69 ls []) := by
  obtain ⟨⟨hx, hb, hml, hown, hts⟩, hr, hlocks, hG, hN⟩ := id C
  unfold wX6_methodOf_b69 at hw
  refine lv_iconst (v := 1) hx hb dX6_methodOf_69 (by decide) ?_
  refine lv_goto (tgt := 74) hx hb dX6_methodOf_70 (by decide) ?_
  exact kX6_methodOf_b74 C hK36 hR hS (lv_sub hl [0, 1, 2] rfl) hw
def wX6_methodOf_b73 (post : Int32 → Prop) (K36 : Int32 → Int32 → Int32 → Prop) (F : (Nat → Int32)) (M : (Nat → Nat → Int32)) (x2 : Int32) (x3 : Int32) : Prop :=
  wX6_methodOf_b74 post K36 F M x2 x3 0
theorem kX6_methodOf_b73 {post : Int32 → Prop} {K36 : Int32 → Int32 → Int32 → Prop} {F : (Nat → Int32)} {M : (Nat → Nat → Int32)} (C : x_C p s m args meth c cX6_methodOf 4 (some .int) RX6 D N0 gp) (hK36 : ∀ (x1 : Int32) (x2 : Int32) (x3 : Int32) (H : Heap) (locs : List Loc) (ls : Array Slot), x_R D s N0 (fixM ad F M ++ XF) h H → va_S (x_A N0) s.heap H locs → lv_has ls 4 [(0, .ref (ad 1000)), (1, .int x1), (2, .int x2), (3, .int x3)] → K36 x1 x2 x3 → W p l e rmX6_methodOf s m args below meth c H locs 0 0 (MQ below (x_Qc D N0 (x_Vi (qPi (fixM ad F M ++ XF) h post))) args s 0 0 (x_A N0)) (F0 m 36 ls [])) {x2 : Int32} {x3 : Int32} {H : Heap} {locs : List Loc} {ls : Array Slot} (hR : x_R D s N0 (fixM ad F M ++ XF) h H) (hS : va_S (x_A N0) s.heap H locs) (hl : lv_has ls 4 [(0, .ref (ad 1000)), (2, .int x2), (3, .int x3)]) (hw : wX6_methodOf_b73 post K36 F M x2 x3) : W p l e rmX6_methodOf s m args below meth c H locs 0 0 (MQ below (x_Qc D N0 (x_Vi (qPi (fixM ad F M ++ XF) h post))) args s 0 0 (x_A N0)) (F0 m 73 ls []) := by
  obtain ⟨⟨hx, hb, hml, hown, hts⟩, hr, hlocks, hG, hN⟩ := id C
  unfold wX6_methodOf_b73 at hw
  refine lv_iconst (v := 0) hx hb dX6_methodOf_73 (by decide) ?_
  exact kX6_methodOf_b74 C hK36 hR hS (lv_sub hl [0, 1, 2] rfl) hw
def wX6_methodOf_b130 (post : Int32 → Prop) (F : (Nat → Int32)) (M : (Nat → Nat → Int32)) (s0 : Int32) : Prop :=
  post s0 
theorem kX6_methodOf_b130 {post : Int32 → Prop} {F : (Nat → Int32)} {M : (Nat → Nat → Int32)} (C : x_C p s m args meth c cX6_methodOf 4 (some .int) RX6 D N0 gp) {s0 : Int32} {H : Heap} {locs : List Loc} {ls : Array Slot} (hR : x_R D s N0 (fixM ad F M ++ XF) h H) (hS : va_S (x_A N0) s.heap H locs) (hl : lv_has ls 4 []) (hw : wX6_methodOf_b130 post F M s0) : W p l e rmX6_methodOf s m args below meth c H locs 0 0 (MQ below (x_Qc D N0 (x_Vi (qPi (fixM ad F M ++ XF) h post))) args s 0 0 (x_A N0)) (F0 m 130 ls [.int s0]) := by
  obtain ⟨⟨hx, hb, hml, hown, hts⟩, hr, hlocks, hG, hN⟩ := id C
  unfold wX6_methodOf_b130 at hw
  exact x_endi C hR hS ⟨_, rfl, ⟨rfl, rfl, hw⟩⟩ (Nat.le_refl _) (Nat.le_refl _) dX6_methodOf_130
def wX6_methodOf_b113 (post : Int32 → Prop) (F : (Nat → Int32)) (M : (Nat → Nat → Int32)) (x1 : Int32) (x2 : Int32) : Prop :=
  (x1 = 0 → (x2 = 0 → wX6_methodOf_b130 post F M 2) ∧ (¬ x2 = 0 → wX6_methodOf_b130 post F M 1)) ∧ (¬ x1 = 0 → wX6_methodOf_b130 post F M 0)
theorem kX6_methodOf_b113 {post : Int32 → Prop} {F : (Nat → Int32)} {M : (Nat → Nat → Int32)} (C : x_C p s m args meth c cX6_methodOf 4 (some .int) RX6 D N0 gp) {x1 : Int32} {x2 : Int32} {H : Heap} {locs : List Loc} {ls : Array Slot} (hR : x_R D s N0 (fixM ad F M ++ XF) h H) (hS : va_S (x_A N0) s.heap H locs) (hl : lv_has ls 4 [(1, .int x1), (2, .int x2)]) (hw : wX6_methodOf_b113 post F M x1 x2) : W p l e rmX6_methodOf s m args below meth c H locs 0 0 (MQ below (x_Qc D N0 (x_Vi (qPi (fixM ad F M ++ XF) h post))) args s 0 0 (x_A N0)) (F0 m 113 ls []) := by
  obtain ⟨⟨hx, hb, hml, hown, hts⟩, hr, hlocks, hG, hN⟩ := id C
  unfold wX6_methodOf_b113 at hw
  refine lv_iload_n hx hb dX6_methodOf_113 rfl (lv_at hl 0 rfl) ?_
  refine lv_if_eq (tgt := 121) hx hb dX6_methodOf_114 (by decide) (fun c29 => ?_) (fun c29 => ?_)
  · have hw := hw.1 c29
    refine lv_iload_n hx hb dX6_methodOf_121 rfl (lv_at hl 1 rfl) ?_
    refine lv_if_eq (tgt := 129) hx hb dX6_methodOf_122 (by decide) (fun c30 => ?_) (fun c30 => ?_)
    · have hw := hw.1 c30
      refine lv_iconst (v := 2) hx hb dX6_methodOf_129 (by decide) ?_
      exact kX6_methodOf_b130 C hR hS (lv_sub hl [] rfl) hw
    · have hw := hw.2 c30
      refine lv_iconst (v := 1) hx hb dX6_methodOf_125 (by decide) ?_
      refine lv_goto (tgt := 130) hx hb dX6_methodOf_126 (by decide) ?_
      exact kX6_methodOf_b130 C hR hS (lv_sub hl [] rfl) hw
  · have hw := hw.2 c29
    refine lv_iconst (v := 0) hx hb dX6_methodOf_117 (by decide) ?_
    refine lv_goto (tgt := 130) hx hb dX6_methodOf_118 (by decide) ?_
    exact kX6_methodOf_b130 C hR hS (lv_sub hl [] rfl) hw
def tX6_methodOf_b36 (post : Int32 → Prop) (K36 : Int32 → Int32 → Int32 → Prop) (F : (Nat → Int32)) (M : (Nat → Nat → Int32)) (x1 : Int32) (x2 : Int32) (x3 : Int32) : Prop :=
  ((4 : Int32) ≤ x3 → wX6_methodOf_b113 post F M x1 x2) ∧ (¬ (4 : Int32) ≤ x3 → (x1 = 0 → wX6_methodOf_b73 post K36 F M x2 x3) ∧ (¬ x1 = 0 → (x3 = 3 → wX6_methodOf_b69 post K36 F M x2 x3) ∧ (¬ x3 = 3 → vp_in ((320 : Int32) + x3) 340 ∧ vp_in x3 340 ∧ (((M 11) ((320 : Int32) + x3).toNatClampNeg) = ((M 11) x3.toNatClampNeg) → wX6_methodOf_b69 post K36 F M x2 x3) ∧ (¬ ((M 11) ((320 : Int32) + x3).toNatClampNeg) = ((M 11) x3.toNatClampNeg) → wX6_methodOf_b73 post K36 F M x2 x3))))
def wX6_methodOf_b36 (post : Int32 → Prop) (F : (Nat → Int32)) (M : (Nat → Nat → Int32)) : Nat → Int32 → Int32 → Int32 → Prop
  | 0 => fun _ _ _ => False
  | n + 1 => fun x1 x2 x3 => tX6_methodOf_b36 post (wX6_methodOf_b36 post F M n) F M x1 x2 x3
theorem kX6_methodOf_b36 {post : Int32 → Prop} {F : (Nat → Int32)} {M : (Nat → Nat → Int32)} (C : x_C p s m args meth c cX6_methodOf 4 (some .int) RX6 D N0 gp) : ∀ (nn : Nat) (x1 : Int32) (x2 : Int32) (x3 : Int32) (H : Heap) (locs : List Loc) (ls : Array Slot), x_R D s N0 (fixM ad F M ++ XF) h H → va_S (x_A N0) s.heap H locs → lv_has ls 4 [(0, .ref (ad 1000)), (1, .int x1), (2, .int x2), (3, .int x3)] → wX6_methodOf_b36 post F M nn x1 x2 x3 → W p l e rmX6_methodOf s m args below meth c H locs 0 0 (MQ below (x_Qc D N0 (x_Vi (qPi (fixM ad F M ++ XF) h post))) args s 0 0 (x_A N0)) (F0 m 36 ls []) := by
  obtain ⟨⟨hx, hb, hml, hown, hts⟩, hr, hlocks, hG, hN⟩ := id C
  intro nn
  induction nn with
  | zero =>
    intro x1 x2 x3 H locs ls hR hS hl hw
    exact False.elim hw
  | succ nn ih =>
    intro x1 x2 x3 H locs ls hR hS hl hw
    have hK36 := ih
    have hw : tX6_methodOf_b36 post (wX6_methodOf_b36 post F M nn) F M x1 x2 x3 := hw
    unfold tX6_methodOf_b36 at hw
    refine lv_iload_n hx hb dX6_methodOf_36 rfl (lv_at hl 3 rfl) ?_
    refine lv_iconst (v := 4) hx hb dX6_methodOf_37 (by decide) ?_
    refine lv_icmp_ge (tgt := 113) hx hb dX6_methodOf_38 (by decide) (fun c19 => ?_) (fun c19 => ?_)
    · have hw := hw.1 c19
      exact kX6_methodOf_b113 C hR hS (lv_sub hl [1, 2] rfl) hw
    · have hw := hw.2 c19
      refine lv_iload_n hx hb dX6_methodOf_41 rfl (lv_at hl 1 rfl) ?_
      refine lv_if_eq (tgt := 73) hx hb dX6_methodOf_42 (by decide) (fun c20 => ?_) (fun c20 => ?_)
      · have hw := hw.1 c20
        exact kX6_methodOf_b73 C hK36 hR hS (lv_sub hl [0, 2, 3] rfl) hw
      · have hw := hw.2 c20
        refine lv_iload_n hx hb dX6_methodOf_45 rfl (lv_at hl 3 rfl) ?_
        refine lv_iconst (v := 3) hx hb dX6_methodOf_46 (by decide) ?_
        refine lv_icmp_eq (tgt := 69) hx hb dX6_methodOf_47 (by decide) (fun c21 => ?_) (fun c21 => ?_)
        · have hw := hw.1 c21
          exact kX6_methodOf_b69 C hK36 hR hS (lv_sub hl [0, 2, 3] rfl) hw
        · have hw := hw.2 c21
          refine lv_aload_n hx hb dX6_methodOf_50 rfl (lv_at hl 0 rfl) ?_
          refine x_get (ci := 5) (Cn := RX6) (T := TX6) (N := 55) (v := .ref (ad 11)) C (hR.rdX 0 rfl) rfl in_X6 11 (by decide) q1190 (fun _ h9 => h9) rfl dX6_methodOf_51 ?_
          refine lv_sipush (v := 320) hx hb dX6_methodOf_54 (by decide) ?_
          refine lv_iload_n hx hb dX6_methodOf_57 rfl (lv_at hl 3 rfl) ?_
          refine lv_iadd hx hb dX6_methodOf_58 ?_
          obtain ⟨b22, hw⟩ := hw
          refine x_cald (n := 340) (f := (M 11)) C (hR.rdX 8 rfl) b22 dX6_methodOf_59 ?_
          refine lv_aload_n hx hb dX6_methodOf_60 rfl (lv_at hl 0 rfl) ?_
          refine x_get (ci := 5) (Cn := RX6) (T := TX6) (N := 55) (v := .ref (ad 11)) C (hR.rdX 0 rfl) rfl in_X6 11 (by decide) q1190 (fun _ h9 => h9) rfl dX6_methodOf_61 ?_
          refine lv_iload_n hx hb dX6_methodOf_64 rfl (lv_at hl 3 rfl) ?_
          obtain ⟨b23, hw⟩ := hw
          refine x_cald (n := 340) (f := (M 11)) C (hR.rdX 8 rfl) b23 dX6_methodOf_65 ?_
          refine lv_icmp_ne (tgt := 73) hx hb dX6_methodOf_66 (by decide) (fun c24 => ?_) (fun c24 => ?_)
          · have hw := hw.2 c24
            exact kX6_methodOf_b73 C hK36 hR hS (lv_sub hl [0, 2, 3] rfl) hw
          · have hw := hw.1 c24
            exact kX6_methodOf_b69 C hK36 hR hS (lv_sub hl [0, 2, 3] rfl) hw
def wX6_methodOf_b33 (post : Int32 → Prop) (F : (Nat → Int32)) (M : (Nat → Nat → Int32)) (x1 : Int32) (s0 : Int32) : Prop :=
  ∃ n18 : Nat, wX6_methodOf_b36 post F M n18 x1 s0 0
theorem kX6_methodOf_b33 {post : Int32 → Prop} {F : (Nat → Int32)} {M : (Nat → Nat → Int32)} (C : x_C p s m args meth c cX6_methodOf 4 (some .int) RX6 D N0 gp) {x1 : Int32} {s0 : Int32} {H : Heap} {locs : List Loc} {ls : Array Slot} (hR : x_R D s N0 (fixM ad F M ++ XF) h H) (hS : va_S (x_A N0) s.heap H locs) (hl : lv_has ls 4 [(0, .ref (ad 1000)), (1, .int x1)]) (hw : wX6_methodOf_b33 post F M x1 s0) : W p l e rmX6_methodOf s m args below meth c H locs 0 0 (MQ below (x_Qc D N0 (x_Vi (qPi (fixM ad F M ++ XF) h post))) args s 0 0 (x_A N0)) (F0 m 33 ls [.int s0]) := by
  obtain ⟨⟨hx, hb, hml, hown, hts⟩, hr, hlocks, hG, hN⟩ := id C
  unfold wX6_methodOf_b33 at hw
  refine lv_istore_n (lv' := [(2, .int s0), (0, .ref (ad 1000)), (1, .int x1)]) hx hb dX6_methodOf_33 rfl hl (by decide) rfl (fun ls hl => ?_)
  refine lv_iconst (v := 0) hx hb dX6_methodOf_34 (by decide) ?_
  refine lv_istore_n (lv' := [(3, .int 0), (2, .int s0), (0, .ref (ad 1000)), (1, .int x1)]) hx hb dX6_methodOf_35 rfl hl (by decide) rfl (fun ls hl => ?_)
  obtain ⟨n18, hw⟩ := hw
  exact kX6_methodOf_b36 C n18 _ _ _ _ _ _ hR hS (lv_sub hl [2, 3, 1, 0] rfl) hw
def wX6_methodOf_b16 (post : Int32 → Prop) (F : (Nat → Int32)) (M : (Nat → Nat → Int32)) (s0 : Int32) : Prop :=
  (((M 10) ((16 : Int32).toNatClampNeg)) = 4 → wX6_methodOf_b33 post F M s0 1) ∧ (¬ ((M 10) ((16 : Int32).toNatClampNeg)) = 4 → wX6_methodOf_b33 post F M s0 0)
theorem kX6_methodOf_b16 {post : Int32 → Prop} {F : (Nat → Int32)} {M : (Nat → Nat → Int32)} (C : x_C p s m args meth c cX6_methodOf 4 (some .int) RX6 D N0 gp) {s0 : Int32} {H : Heap} {locs : List Loc} {ls : Array Slot} (hR : x_R D s N0 (fixM ad F M ++ XF) h H) (hS : va_S (x_A N0) s.heap H locs) (hl : lv_has ls 4 [(0, .ref (ad 1000))]) (hw : wX6_methodOf_b16 post F M s0) : W p l e rmX6_methodOf s m args below meth c H locs 0 0 (MQ below (x_Qc D N0 (x_Vi (qPi (fixM ad F M ++ XF) h post))) args s 0 0 (x_A N0)) (F0 m 16 ls [.int s0]) := by
  obtain ⟨⟨hx, hb, hml, hown, hts⟩, hr, hlocks, hG, hN⟩ := id C
  unfold wX6_methodOf_b16 at hw
  refine lv_istore_n (lv' := [(1, .int s0), (0, .ref (ad 1000))]) hx hb dX6_methodOf_16 rfl hl (by decide) rfl (fun ls hl => ?_)
  refine lv_aload_n hx hb dX6_methodOf_17 rfl (lv_at hl 1 rfl) ?_
  refine x_get (ci := 5) (Cn := RX6) (T := TX6) (N := 55) (v := .ref (ad 10)) C (hR.rdX 0 rfl) rfl in_X6 10 (by decide) q1189 (fun _ h9 => h9) rfl dX6_methodOf_18 ?_
  refine lv_bipush (v := 16) hx hb dX6_methodOf_21 (by decide) ?_
  refine x_iald (n := 17) (f := (M 10)) C (hR.rdX 7 rfl) (by unfold vp_in; decide) dX6_methodOf_23 ?_
  refine lv_iconst (v := 4) hx hb dX6_methodOf_24 (by decide) ?_
  refine lv_icmp_ne (tgt := 32) hx hb dX6_methodOf_25 (by decide) (fun c17 => ?_) (fun c17 => ?_)
  · have hw := hw.2 c17
    refine lv_iconst (v := 0) hx hb dX6_methodOf_32 (by decide) ?_
    exact kX6_methodOf_b33 C hR hS (lv_sub hl [1, 0] rfl) hw
  · have hw := hw.1 c17
    refine lv_iconst (v := 1) hx hb dX6_methodOf_28 (by decide) ?_
    refine lv_goto (tgt := 33) hx hb dX6_methodOf_29 (by decide) ?_
    exact kX6_methodOf_b33 C hR hS (lv_sub hl [1, 0] rfl) hw
end
def wX6_methodOf (post : Int32 → Prop) (F : (Nat → Int32)) (M : (Nat → Nat → Int32)) : Prop :=
  (((M 10) ((16 : Int32).toNatClampNeg)) = 3 → wX6_methodOf_b16 post F M 1) ∧ (¬ ((M 10) ((16 : Int32).toNatClampNeg)) = 3 → wX6_methodOf_b16 post F M 0)
theorem kX6_methodOf (l : Launch) (D : va_G) (N0 : Nat) (gp : Nat → Nat) (ad : Nat → Nat) (XF : x_X) (h : x_H) (F : (Nat → Int32)) (M : (Nat → Nat → Int32)) (post : Int32 → Prop) (hw : wX6_methodOf post F M ) : Met l yX6_methodOf (ws_ yX6_methodOf cX6_methodOf 4 (some .int)) rmX6_methodOf (x_Pc D N0 gp (fixM ad F M ++ XF) h [.ref (ad 1000)]) (x_Qc D N0 (x_Vi (qPi (fixM ad F M ++ XF) h post))) 0 0 (x_A N0) := by
  refine x_start (lv := [(0, .ref (ad 1000))]) (by decide) rfl (Nat.le_of_ble_eq_true rfl) rfl ?_
  intro p e s m below meth c C hR ls hl
  have hS : va_S (x_A N0) s.heap s.heap [] := va_S.rf
  obtain ⟨⟨hx, hb, hml, hown, hts⟩, hr, hlocks, hG, hN⟩ := id C
  unfold wX6_methodOf at hw
  refine lv_aload_n hx hb dX6_methodOf_0 rfl (lv_at hl 0 rfl) ?_
  refine x_get (ci := 5) (Cn := RX6) (T := TX6) (N := 55) (v := .ref (ad 10)) C (hR.rdX 0 rfl) rfl in_X6 10 (by decide) q1189 (fun _ h9 => h9) rfl dX6_methodOf_1 ?_
  refine lv_bipush (v := 16) hx hb dX6_methodOf_4 (by decide) ?_
  refine x_iald (n := 17) (f := (M 10)) C (hR.rdX 7 rfl) (by unfold vp_in; decide) dX6_methodOf_6 ?_
  refine lv_iconst (v := 3) hx hb dX6_methodOf_7 (by decide) ?_
  refine lv_icmp_ne (tgt := 15) hx hb dX6_methodOf_8 (by decide) (fun c16 => ?_) (fun c16 => ?_)
  · have hw := hw.2 c16
    refine lv_iconst (v := 0) hx hb dX6_methodOf_15 (by decide) ?_
    exact kX6_methodOf_b16 C hR hS (lv_sub hl [0] rfl) hw
  · have hw := hw.1 c16
    refine lv_iconst (v := 1) hx hb dX6_methodOf_11 (by decide) ?_
    refine lv_goto (tgt := 16) hx hb dX6_methodOf_12 (by decide) ?_
    exact kX6_methodOf_b16 C hR hS (lv_sub hl [0] rfl) hw
/-- PageServerModel.isLength()Z -/
abbrev rmX6_isLength : Room := { frames := 0, cells := 0, slots := 0, locals := 0 }
section
variable {p : Program} {l : Launch} {e : Env} {s : State} {m : MethodId} {args : Array Value} {below : List Frame} {meth : Method} {c : Code} {D : va_G} {N0 : Nat} {gp : Nat → Nat} {ad : Nat → Nat} {XF : x_X} {h : x_H}
def wX6_isLength_b57 (post : Int32 → Prop) (K20 : Int32 → Int32 → Prop) (F : (Nat → Int32)) (M : (Nat → Nat → Int32)) (x2 : Int32) (s0 : Int32) : Prop :=
  K20 s0 (x2 + 1)
theorem kX6_isLength_b57 {post : Int32 → Prop} {K20 : Int32 → Int32 → Prop} {F : (Nat → Int32)} {M : (Nat → Nat → Int32)} (C : x_C p s m args meth c cX6_isLength 3 (some .boolean) RX6 D N0 gp) (hK20 : ∀ (x1 : Int32) (x2 : Int32) (H : Heap) (locs : List Loc) (ls : Array Slot), x_R D s N0 (fixM ad F M ++ XF) h H → va_S (x_A N0) s.heap H locs → lv_has ls 3 [(0, .ref (ad 1000)), (1, .int x1), (2, .int x2)] → K20 x1 x2 → W p l e rmX6_isLength s m args below meth c H locs 0 0 (MQ below (x_Qc D N0 (x_Vi (qPi (fixM ad F M ++ XF) h post))) args s 0 0 (x_A N0)) (F0 m 20 ls [])) {x2 : Int32} {s0 : Int32} {H : Heap} {locs : List Loc} {ls : Array Slot} (hR : x_R D s N0 (fixM ad F M ++ XF) h H) (hS : va_S (x_A N0) s.heap H locs) (hl : lv_has ls 3 [(0, .ref (ad 1000)), (2, .int x2)]) (hw : wX6_isLength_b57 post K20 F M x2 s0) : W p l e rmX6_isLength s m args below meth c H locs 0 0 (MQ below (x_Qc D N0 (x_Vi (qPi (fixM ad F M ++ XF) h post))) args s 0 0 (x_A N0)) (F0 m 57 ls [.int s0]) := by
  obtain ⟨⟨hx, hb, hml, hown, hts⟩, hr, hlocks, hG, hN⟩ := id C
  unfold wX6_isLength_b57 at hw
  refine lv_istore_n (lv' := [(1, .int s0), (0, .ref (ad 1000)), (2, .int x2)]) hx hb dX6_isLength_57 rfl hl (by decide) rfl (fun ls hl => ?_)
  refine lv_iinc (v := x2 + 1) (lv' := [(2, .int (x2 + 1)), (1, .int s0), (0, .ref (ad 1000))]) hx hb dX6_isLength_58 hl (k := 2) rfl (x_inc 1 1 (by decide)) (by decide) rfl (fun ls hl => ?_)
  refine lv_goto (tgt := 20) hx hb dX6_isLength_61 (by decide) ?_
  exact hK20 _ _ _ _ _ hR hS (lv_sub hl [2, 1, 0] rfl) hw
def wX6_isLength_b64 (post : Int32 → Prop) (F : (Nat → Int32)) (M : (Nat → Nat → Int32)) (x1 : Int32) : Prop :=
  narrow .boolean (.int x1) = .int x1 ∧ post x1 
theorem kX6_isLength_b64 {post : Int32 → Prop} {F : (Nat → Int32)} {M : (Nat → Nat → Int32)} (C : x_C p s m args meth c cX6_isLength 3 (some .boolean) RX6 D N0 gp) {x1 : Int32} {H : Heap} {locs : List Loc} {ls : Array Slot} (hR : x_R D s N0 (fixM ad F M ++ XF) h H) (hS : va_S (x_A N0) s.heap H locs) (hl : lv_has ls 3 [(1, .int x1)]) (hw : wX6_isLength_b64 post F M x1) : W p l e rmX6_isLength s m args below meth c H locs 0 0 (MQ below (x_Qc D N0 (x_Vi (qPi (fixM ad F M ++ XF) h post))) args s 0 0 (x_A N0)) (F0 m 64 ls []) := by
  obtain ⟨⟨hx, hb, hml, hown, hts⟩, hr, hlocks, hG, hN⟩ := id C
  unfold wX6_isLength_b64 at hw
  refine lv_iload_n hx hb dX6_isLength_64 rfl (lv_at hl 0 rfl) ?_
  obtain ⟨hz, hw⟩ := hw
  exact x_endz C hR hS hz ⟨_, rfl, ⟨rfl, rfl, hw⟩⟩ (Nat.le_refl _) (Nat.le_refl _) dX6_isLength_65
def tX6_isLength_b20 (post : Int32 → Prop) (K20 : Int32 → Int32 → Prop) (F : (Nat → Int32)) (M : (Nat → Nat → Int32)) (x1 : Int32) (x2 : Int32) : Prop :=
  ((6 : Int32) ≤ x2 → wX6_isLength_b64 post F M x1) ∧ (¬ (6 : Int32) ≤ x2 → (x1 = 0 → wX6_isLength_b64 post F M x1) ∧ (¬ x1 = 0 → vp_in ((320 : Int32) + x2) 340 ∧ vp_in ((80 : Int32) + x2) 340 ∧ (((M 9) ((320 : Int32) + x2).toNatClampNeg) = ((M 9) ((80 : Int32) + x2).toNatClampNeg) → wX6_isLength_b57 post K20 F M x2 1) ∧ (¬ ((M 9) ((320 : Int32) + x2).toNatClampNeg) = ((M 9) ((80 : Int32) + x2).toNatClampNeg) → wX6_isLength_b57 post K20 F M x2 0)))
def wX6_isLength_b20 (post : Int32 → Prop) (F : (Nat → Int32)) (M : (Nat → Nat → Int32)) : Nat → Int32 → Int32 → Prop
  | 0 => fun _ _ => False
  | n + 1 => fun x1 x2 => tX6_isLength_b20 post (wX6_isLength_b20 post F M n) F M x1 x2
theorem kX6_isLength_b20 {post : Int32 → Prop} {F : (Nat → Int32)} {M : (Nat → Nat → Int32)} (C : x_C p s m args meth c cX6_isLength 3 (some .boolean) RX6 D N0 gp) : ∀ (nn : Nat) (x1 : Int32) (x2 : Int32) (H : Heap) (locs : List Loc) (ls : Array Slot), x_R D s N0 (fixM ad F M ++ XF) h H → va_S (x_A N0) s.heap H locs → lv_has ls 3 [(0, .ref (ad 1000)), (1, .int x1), (2, .int x2)] → wX6_isLength_b20 post F M nn x1 x2 → W p l e rmX6_isLength s m args below meth c H locs 0 0 (MQ below (x_Qc D N0 (x_Vi (qPi (fixM ad F M ++ XF) h post))) args s 0 0 (x_A N0)) (F0 m 20 ls []) := by
  obtain ⟨⟨hx, hb, hml, hown, hts⟩, hr, hlocks, hG, hN⟩ := id C
  intro nn
  induction nn with
  | zero =>
    intro x1 x2 H locs ls hR hS hl hw
    exact False.elim hw
  | succ nn ih =>
    intro x1 x2 H locs ls hR hS hl hw
    have hK20 := ih
    have hw : tX6_isLength_b20 post (wX6_isLength_b20 post F M nn) F M x1 x2 := hw
    unfold tX6_isLength_b20 at hw
    refine lv_iload_n hx hb dX6_isLength_20 rfl (lv_at hl 2 rfl) ?_
    refine lv_bipush (v := 6) hx hb dX6_isLength_21 (by decide) ?_
    refine lv_icmp_ge (tgt := 64) hx hb dX6_isLength_23 (by decide) (fun c10 => ?_) (fun c10 => ?_)
    · have hw := hw.1 c10
      exact kX6_isLength_b64 C hR hS (lv_sub hl [1] rfl) hw
    · have hw := hw.2 c10
      refine lv_iload_n hx hb dX6_isLength_26 rfl (lv_at hl 1 rfl) ?_
      refine lv_if_eq (tgt := 64) hx hb dX6_isLength_27 (by decide) (fun c11 => ?_) (fun c11 => ?_)
      · have hw := hw.1 c11
        exact kX6_isLength_b64 C hR hS (lv_sub hl [1] rfl) hw
      · have hw := hw.2 c11
        refine lv_aload_n hx hb dX6_isLength_30 rfl (lv_at hl 0 rfl) ?_
        refine x_get (ci := 5) (Cn := RX6) (T := TX6) (N := 55) (v := .ref (ad 9)) C (hR.rdX 0 rfl) rfl in_X6 9 (by decide) q1188 (fun _ h9 => h9) rfl dX6_isLength_31 ?_
        refine lv_sipush (v := 320) hx hb dX6_isLength_34 (by decide) ?_
        refine lv_iload_n hx hb dX6_isLength_37 rfl (lv_at hl 2 rfl) ?_
        refine lv_iadd hx hb dX6_isLength_38 ?_
        obtain ⟨b12, hw⟩ := hw
        refine x_cald (n := 340) (f := (M 9)) C (hR.rdX 6 rfl) b12 dX6_isLength_39 ?_
        refine lv_aload_n hx hb dX6_isLength_40 rfl (lv_at hl 0 rfl) ?_
        refine x_get (ci := 5) (Cn := RX6) (T := TX6) (N := 55) (v := .ref (ad 9)) C (hR.rdX 0 rfl) rfl in_X6 9 (by decide) q1188 (fun _ h9 => h9) rfl dX6_isLength_41 ?_
        refine lv_bipush (v := 80) hx hb dX6_isLength_44 (by decide) ?_
        refine lv_iload_n hx hb dX6_isLength_46 rfl (lv_at hl 2 rfl) ?_
        refine lv_iadd hx hb dX6_isLength_47 ?_
        obtain ⟨b13, hw⟩ := hw
        refine x_cald (n := 340) (f := (M 9)) C (hR.rdX 6 rfl) b13 dX6_isLength_48 ?_
        refine lv_icmp_ne (tgt := 56) hx hb dX6_isLength_49 (by decide) (fun c14 => ?_) (fun c14 => ?_)
        · have hw := hw.2 c14
          refine lv_iconst (v := 0) hx hb dX6_isLength_56 (by decide) ?_
          exact kX6_isLength_b57 C hK20 hR hS (lv_sub hl [0, 2] rfl) hw
        · have hw := hw.1 c14
          refine lv_iconst (v := 1) hx hb dX6_isLength_52 (by decide) ?_
          refine lv_goto (tgt := 57) hx hb dX6_isLength_53 (by decide) ?_
          exact kX6_isLength_b57 C hK20 hR hS (lv_sub hl [0, 2] rfl) hw
def wX6_isLength_b17 (post : Int32 → Prop) (F : (Nat → Int32)) (M : (Nat → Nat → Int32)) (s0 : Int32) : Prop :=
  ∃ n9 : Nat, wX6_isLength_b20 post F M n9 s0 0
theorem kX6_isLength_b17 {post : Int32 → Prop} {F : (Nat → Int32)} {M : (Nat → Nat → Int32)} (C : x_C p s m args meth c cX6_isLength 3 (some .boolean) RX6 D N0 gp) {s0 : Int32} {H : Heap} {locs : List Loc} {ls : Array Slot} (hR : x_R D s N0 (fixM ad F M ++ XF) h H) (hS : va_S (x_A N0) s.heap H locs) (hl : lv_has ls 3 [(0, .ref (ad 1000))]) (hw : wX6_isLength_b17 post F M s0) : W p l e rmX6_isLength s m args below meth c H locs 0 0 (MQ below (x_Qc D N0 (x_Vi (qPi (fixM ad F M ++ XF) h post))) args s 0 0 (x_A N0)) (F0 m 17 ls [.int s0]) := by
  obtain ⟨⟨hx, hb, hml, hown, hts⟩, hr, hlocks, hG, hN⟩ := id C
  unfold wX6_isLength_b17 at hw
  refine lv_istore_n (lv' := [(1, .int s0), (0, .ref (ad 1000))]) hx hb dX6_isLength_17 rfl hl (by decide) rfl (fun ls hl => ?_)
  refine lv_iconst (v := 0) hx hb dX6_isLength_18 (by decide) ?_
  refine lv_istore_n (lv' := [(2, .int 0), (1, .int s0), (0, .ref (ad 1000))]) hx hb dX6_isLength_19 rfl hl (by decide) rfl (fun ls hl => ?_)
  obtain ⟨n9, hw⟩ := hw
  exact kX6_isLength_b20 C n9 _ _ _ _ _ hR hS (lv_sub hl [2, 1, 0] rfl) hw
end
def wX6_isLength (post : Int32 → Prop) (F : (Nat → Int32)) (M : (Nat → Nat → Int32)) : Prop :=
  (((M 8) ((16 : Int32).toNatClampNeg)) = 6 → wX6_isLength_b17 post F M 1) ∧ (¬ ((M 8) ((16 : Int32).toNatClampNeg)) = 6 → wX6_isLength_b17 post F M 0)
theorem kX6_isLength (l : Launch) (D : va_G) (N0 : Nat) (gp : Nat → Nat) (ad : Nat → Nat) (XF : x_X) (h : x_H) (F : (Nat → Int32)) (M : (Nat → Nat → Int32)) (post : Int32 → Prop) (hw : wX6_isLength post F M ) : Met l yX6_isLength (ws_ yX6_isLength cX6_isLength 3 (some .boolean)) rmX6_isLength (x_Pc D N0 gp (fixM ad F M ++ XF) h [.ref (ad 1000)]) (x_Qc D N0 (x_Vi (qPi (fixM ad F M ++ XF) h post))) 0 0 (x_A N0) := by
  refine x_start (lv := [(0, .ref (ad 1000))]) (by decide) rfl (Nat.le_of_ble_eq_true rfl) rfl ?_
  intro p e s m below meth c C hR ls hl
  have hS : va_S (x_A N0) s.heap s.heap [] := va_S.rf
  obtain ⟨⟨hx, hb, hml, hown, hts⟩, hr, hlocks, hG, hN⟩ := id C
  unfold wX6_isLength at hw
  refine lv_aload_n hx hb dX6_isLength_0 rfl (lv_at hl 0 rfl) ?_
  refine x_get (ci := 5) (Cn := RX6) (T := TX6) (N := 55) (v := .ref (ad 8)) C (hR.rdX 0 rfl) rfl in_X6 8 (by decide) q1187 (fun _ h9 => h9) rfl dX6_isLength_1 ?_
  refine lv_bipush (v := 16) hx hb dX6_isLength_4 (by decide) ?_
  refine x_iald (n := 17) (f := (M 8)) C (hR.rdX 5 rfl) (by unfold vp_in; decide) dX6_isLength_6 ?_
  refine lv_bipush (v := 6) hx hb dX6_isLength_7 (by decide) ?_
  refine lv_icmp_ne (tgt := 16) hx hb dX6_isLength_9 (by decide) (fun c8 => ?_) (fun c8 => ?_)
  · have hw := hw.2 c8
    refine lv_iconst (v := 0) hx hb dX6_isLength_16 (by decide) ?_
    exact kX6_isLength_b17 C hR hS (lv_sub hl [0] rfl) hw
  · have hw := hw.1 c8
    refine lv_iconst (v := 1) hx hb dX6_isLength_12 (by decide) ?_
    refine lv_goto (tgt := 17) hx hb dX6_isLength_13 (by decide) ?_
    exact kX6_isLength_b17 C hR hS (lv_sub hl [0] rfl) hw
/-- PageServerModel.judgeLength()V -/
abbrev rmX6_judgeLength : Room := { frames := 1, cells := 0, slots := 0, locals := 22 }
section
variable {p : Program} {l : Launch} {e : Env} {s : State} {m : MethodId} {args : Array Value} {below : List Frame} {meth : Method} {c : Code} {D : va_G} {N0 : Nat} {gp : Nat → Nat} {ad : Nat → Nat} {XF : x_X} {h : x_H}
def wX6_judgeLength_b87 (post : (Nat → Int32) → (Nat → Nat → Int32) → Prop) (K43 : (Nat → Int32) → (Nat → Nat → Int32) → Int32 → Int32 → Prop)  (F : (Nat → Int32)) (M : (Nat → Nat → Int32)) (x1 : Int32) (x2 : Int32) (s0 : Int32) : Prop :=
  x_bit s0 ∧ vp_in ((320 : Int32) + x2) 340 ∧ K43 (upd F 39 s0) M (((((10 : Int32) * x1) + ((M 11) ((320 : Int32) + x2).toNatClampNeg)) - 48) - ((((10 : Int32) * x1) + ((M 11) ((320 : Int32) + x2).toNatClampNeg)) - 48) / 100000 * 100000) (x2 + 1)
theorem kX6_judgeLength_b87 {post : (Nat → Int32) → (Nat → Nat → Int32) → Prop} {K43 : (Nat → Int32) → (Nat → Nat → Int32) → Int32 → Int32 → Prop} (C : x_C p s m args meth c cX6_judgeLength 3 none RX6 D N0 gp) (hK43 : ∀ (F : (Nat → Int32)) (M : (Nat → Nat → Int32)) (x1 : Int32) (x2 : Int32) (H : Heap) (locs : List Loc) (ls : Array Slot), x_R D s N0 (fixM ad F M ++ XF) h H → va_S (x_A N0) s.heap H locs → lv_has ls 3 [(0, .ref (ad 1000)), (1, .int x1), (2, .int x2)] → K43 F M x1 x2 → W p l e rmX6_judgeLength s m args below meth c H locs 0 0 (MQ below (x_Qc D N0 (x_Vv (qMv ad XF h post))) args s 0 0 (x_A N0)) (F0 m 43 ls [])) {F : (Nat → Int32)} {M : (Nat → Nat → Int32)} {x1 : Int32} {x2 : Int32} {s0 : Int32} {H : Heap} {locs : List Loc} {ls : Array Slot} (hR : x_R D s N0 (fixM ad F M ++ XF) h H) (hS : va_S (x_A N0) s.heap H locs) (hl : lv_has ls 3 [(0, .ref (ad 1000)), (1, .int x1), (2, .int x2)]) (hw : wX6_judgeLength_b87 post K43 F M x1 x2 s0) : W p l e rmX6_judgeLength s m args below meth c H locs 0 0 (MQ below (x_Qc D N0 (x_Vv (qMv ad XF h post))) args s 0 0 (x_A N0)) (F0 m 87 ls [.int s0, .ref (ad 1000)]) := by
  obtain ⟨⟨hx, hb, hml, hown, hts⟩, hr, hlocks, hG, hN⟩ := id C
  unfold wX6_judgeLength_b87 at hw
  obtain ⟨z25, hw⟩ := hw
  refine x_putX (ci := 5) (Cn := RX6) (T := TX6) (N := 55) (v := .int s0) C hR hS 0 rfl rfl in_X6 tyX6_ok nmX6 39 (by decide) q1218 (fun _ h9 => h9) rfl (x_bitN z25) (x_bitF z25) (Nat.le_of_ble_eq_true rfl) (sM_f39 ..) dX6_judgeLength_87 (fun H locs hR hS => ?_)
  refine lv_bipush (v := 10) hx hb dX6_judgeLength_90 (by decide) ?_
  refine lv_iload_n hx hb dX6_judgeLength_92 rfl (lv_at hl 1 rfl) ?_
  refine lv_imul hx hb dX6_judgeLength_93 ?_
  refine lv_aload_n hx hb dX6_judgeLength_94 rfl (lv_at hl 0 rfl) ?_
  refine x_get (ci := 5) (Cn := RX6) (T := TX6) (N := 55) (v := .ref (ad 11)) C (hR.rdX 0 rfl) rfl in_X6 11 (by decide) q1190 (fun _ h9 => h9) rfl dX6_judgeLength_95 ?_
  refine lv_sipush (v := 320) hx hb dX6_judgeLength_98 (by decide) ?_
  refine lv_iload_n hx hb dX6_judgeLength_101 rfl (lv_at hl 2 rfl) ?_
  refine lv_iadd hx hb dX6_judgeLength_102 ?_
  obtain ⟨b26, hw⟩ := hw
  refine x_cald (n := 340) (f := (M 11)) C (hR.rdX 8 rfl) b26 dX6_judgeLength_103 ?_
  refine lv_iadd hx hb dX6_judgeLength_104 ?_
  refine lv_bipush (v := 48) hx hb dX6_judgeLength_105 (by decide) ?_
  refine lv_isub hx hb dX6_judgeLength_107 ?_
  refine lv_ldc hx hb hown (hts _ q1507) dX6_judgeLength_108 ?_
  refine lv_irem hx hb dX6_judgeLength_110 (by decide) ?_
  refine lv_istore_n (lv' := [(1, .int (((((10 : Int32) * x1) + ((M 11) ((320 : Int32) + x2).toNatClampNeg)) - 48) - ((((10 : Int32) * x1) + ((M 11) ((320 : Int32) + x2).toNatClampNeg)) - 48) / 100000 * 100000)), (0, .ref (ad 1000)), (2, .int x2)]) hx hb dX6_judgeLength_111 rfl hl (by decide) rfl (fun ls hl => ?_)
  refine lv_iinc (v := x2 + 1) (lv' := [(2, .int (x2 + 1)), (1, .int (((((10 : Int32) * x1) + ((M 11) ((320 : Int32) + x2).toNatClampNeg)) - 48) - ((((10 : Int32) * x1) + ((M 11) ((320 : Int32) + x2).toNatClampNeg)) - 48) / 100000 * 100000)), (0, .ref (ad 1000))]) hx hb dX6_judgeLength_112 hl (k := 2) rfl (x_inc 1 1 (by decide)) (by decide) rfl (fun ls hl => ?_)
  refine lv_goto (tgt := 43) hx hb dX6_judgeLength_115 (by decide) ?_
  exact hK43 _ _ _ _ _ _ _ hR hS (lv_sub hl [2, 1, 0] rfl) hw
def wX6_judgeLength_b82 (post : (Nat → Int32) → (Nat → Nat → Int32) → Prop) (K43 : (Nat → Int32) → (Nat → Nat → Int32) → Int32 → Int32 → Prop)  (F : (Nat → Int32)) (M : (Nat → Nat → Int32)) (x1 : Int32) (x2 : Int32) : Prop :=
  wX6_judgeLength_b87 post K43 F M x1 x2 1
theorem kX6_judgeLength_b82 {post : (Nat → Int32) → (Nat → Nat → Int32) → Prop} {K43 : (Nat → Int32) → (Nat → Nat → Int32) → Int32 → Int32 → Prop} (C : x_C p s m args meth c cX6_judgeLength 3 none RX6 D N0 gp) (hK43 : ∀ (F : (Nat → Int32)) (M : (Nat → Nat → Int32)) (x1 : Int32) (x2 : Int32) (H : Heap) (locs : List Loc) (ls : Array Slot), x_R D s N0 (fixM ad F M ++ XF) h H → va_S (x_A N0) s.heap H locs → lv_has ls 3 [(0, .ref (ad 1000)), (1, .int x1), (2, .int x2)] → K43 F M x1 x2 → W p l e rmX6_judgeLength s m args below meth c H locs 0 0 (MQ below (x_Qc D N0 (x_Vv (qMv ad XF h post))) args s 0 0 (x_A N0)) (F0 m 43 ls [])) {F : (Nat → Int32)} {M : (Nat → Nat → Int32)} {x1 : Int32} {x2 : Int32} {H : Heap} {locs : List Loc} {ls : Array Slot} (hR : x_R D s N0 (fixM ad F M ++ XF) h H) (hS : va_S (x_A N0) s.heap H locs) (hl : lv_has ls 3 [(0, .ref (ad 1000)), (1, .int x1), (2, .int x2)]) (hw : wX6_judgeLength_b82 post K43 F M x1 x2) : W p l e rmX6_judgeLength s m args below meth c H locs 0 0 (MQ below (x_Qc D N0 (x_Vv (qMv ad XF h post))) args s 0 0 (x_A N0)) (F0 m 82 ls [.ref (ad 1000)]) := by
  obtain ⟨⟨hx, hb, hml, hown, hts⟩, hr, hlocks, hG, hN⟩ := id C
  unfold wX6_judgeLength_b82 at hw
  refine lv_iconst (v := 1) hx hb dX6_judgeLength_82 (by decide) ?_
  refine lv_goto (tgt := 87) hx hb dX6_judgeLength_83 (by decide) ?_
  exact kX6_judgeLength_b87 C hK43 hR hS (lv_sub hl [0, 1, 2] rfl) hw
def wX6_judgeLength_b118 (post : (Nat → Int32) → (Nat → Nat → Int32) → Prop)  (F : (Nat → Int32)) (M : (Nat → Nat → Int32)) (x1 : Int32) : Prop :=
  post (upd F 44 x1) M
theorem kX6_judgeLength_b118 {post : (Nat → Int32) → (Nat → Nat → Int32) → Prop} (C : x_C p s m args meth c cX6_judgeLength 3 none RX6 D N0 gp) {F : (Nat → Int32)} {M : (Nat → Nat → Int32)} {x1 : Int32} {H : Heap} {locs : List Loc} {ls : Array Slot} (hR : x_R D s N0 (fixM ad F M ++ XF) h H) (hS : va_S (x_A N0) s.heap H locs) (hl : lv_has ls 3 [(0, .ref (ad 1000)), (1, .int x1)]) (hw : wX6_judgeLength_b118 post F M x1) : W p l e rmX6_judgeLength s m args below meth c H locs 0 0 (MQ below (x_Qc D N0 (x_Vv (qMv ad XF h post))) args s 0 0 (x_A N0)) (F0 m 118 ls []) := by
  obtain ⟨⟨hx, hb, hml, hown, hts⟩, hr, hlocks, hG, hN⟩ := id C
  unfold wX6_judgeLength_b118 at hw
  refine lv_aload_n hx hb dX6_judgeLength_118 rfl (lv_at hl 0 rfl) ?_
  refine lv_iload_n hx hb dX6_judgeLength_119 rfl (lv_at hl 1 rfl) ?_
  refine x_putX (ci := 5) (Cn := RX6) (T := TX6) (N := 55) (v := .int x1) C hR hS 0 rfl rfl in_X6 tyX6_ok nmX6 44 (by decide) q1223 (fun _ h9 => h9) rfl rfl rfl (Nat.le_of_ble_eq_true rfl) (sM_f44 ..) dX6_judgeLength_120 (fun H locs hR hS => ?_)
  exact x_endv C hR hS ⟨rfl, ⟨_, _, rfl, rfl, hw⟩⟩ (Nat.le_refl _) (Nat.le_refl _) dX6_judgeLength_123
def tX6_judgeLength_b43 (post : (Nat → Int32) → (Nat → Nat → Int32) → Prop) (K43 : (Nat → Int32) → (Nat → Nat → Int32) → Int32 → Int32 → Prop)  (F : (Nat → Int32)) (M : (Nat → Nat → Int32)) (x1 : Int32) (x2 : Int32) : Prop :=
  (((M 10) ((16 : Int32).toNatClampNeg)) ≤ x2 → wX6_judgeLength_b118 post F M x1) ∧ (¬ ((M 10) ((16 : Int32).toNatClampNeg)) ≤ x2 → ((F 39) = 0 → vp_in ((320 : Int32) + x2) 340 ∧ wX6_outside (fun r23 => (r23 = 0 → wX6_judgeLength_b87 post K43 F M x1 x2 0) ∧ (¬ r23 = 0 → wX6_judgeLength_b82 post K43 F M x1 x2)) ((M 11) ((320 : Int32) + x2).toNatClampNeg) 48 57) ∧ (¬ (F 39) = 0 → wX6_judgeLength_b82 post K43 F M x1 x2))
def wX6_judgeLength_b43 (post : (Nat → Int32) → (Nat → Nat → Int32) → Prop)  : Nat → (Nat → Int32) → (Nat → Nat → Int32) → Int32 → Int32 → Prop
  | 0 => fun _ _ _ _ => False
  | n + 1 => fun F M x1 x2 => tX6_judgeLength_b43 post (wX6_judgeLength_b43 post n)  F M x1 x2
theorem kX6_judgeLength_b43 {post : (Nat → Int32) → (Nat → Nat → Int32) → Prop} (C : x_C p s m args meth c cX6_judgeLength 3 none RX6 D N0 gp) : ∀ (nn : Nat) (F : (Nat → Int32)) (M : (Nat → Nat → Int32)) (x1 : Int32) (x2 : Int32) (H : Heap) (locs : List Loc) (ls : Array Slot), x_R D s N0 (fixM ad F M ++ XF) h H → va_S (x_A N0) s.heap H locs → lv_has ls 3 [(0, .ref (ad 1000)), (1, .int x1), (2, .int x2)] → wX6_judgeLength_b43 post nn F M x1 x2 → W p l e rmX6_judgeLength s m args below meth c H locs 0 0 (MQ below (x_Qc D N0 (x_Vv (qMv ad XF h post))) args s 0 0 (x_A N0)) (F0 m 43 ls []) := by
  obtain ⟨⟨hx, hb, hml, hown, hts⟩, hr, hlocks, hG, hN⟩ := id C
  intro nn
  induction nn with
  | zero =>
    intro F M x1 x2 H locs ls hR hS hl hw
    exact False.elim hw
  | succ nn ih =>
    intro F M x1 x2 H locs ls hR hS hl hw
    have hK43 := ih
    have hw : tX6_judgeLength_b43 post (wX6_judgeLength_b43 post nn)  F M x1 x2 := hw
    unfold tX6_judgeLength_b43 at hw
    refine lv_iload_n hx hb dX6_judgeLength_43 rfl (lv_at hl 2 rfl) ?_
    refine lv_aload_n hx hb dX6_judgeLength_44 rfl (lv_at hl 0 rfl) ?_
    refine x_get (ci := 5) (Cn := RX6) (T := TX6) (N := 55) (v := .ref (ad 10)) C (hR.rdX 0 rfl) rfl in_X6 10 (by decide) q1189 (fun _ h9 => h9) rfl dX6_judgeLength_45 ?_
    refine lv_bipush (v := 16) hx hb dX6_judgeLength_48 (by decide) ?_
    refine x_iald (n := 17) (f := (M 10)) C (hR.rdX 7 rfl) (by unfold vp_in; decide) dX6_judgeLength_50 ?_
    refine lv_icmp_ge (tgt := 118) hx hb dX6_judgeLength_51 (by decide) (fun c20 => ?_) (fun c20 => ?_)
    · have hw := hw.1 c20
      exact kX6_judgeLength_b118 C hR hS (lv_sub hl [0, 1] rfl) hw
    · have hw := hw.2 c20
      refine lv_aload_n hx hb dX6_judgeLength_54 rfl (lv_at hl 0 rfl) ?_
      refine lv_aload_n hx hb dX6_judgeLength_55 rfl (lv_at hl 0 rfl) ?_
      refine x_get (ci := 5) (Cn := RX6) (T := TX6) (N := 55) (v := .int (F 39)) C (hR.rdX 0 rfl) rfl in_X6 39 (by decide) q1218 (fun _ h9 => h9) rfl dX6_judgeLength_56 ?_
      refine lv_if_ne (tgt := 82) hx hb dX6_judgeLength_59 (by decide) (fun c21 => ?_) (fun c21 => ?_)
      · have hw := hw.2 c21
        exact kX6_judgeLength_b82 C hK43 hR hS (lv_sub hl [0, 1, 2] rfl) hw
      · have hw := hw.1 c21
        refine lv_aload_n hx hb dX6_judgeLength_62 rfl (lv_at hl 0 rfl) ?_
        refine x_get (ci := 5) (Cn := RX6) (T := TX6) (N := 55) (v := .ref (ad 11)) C (hR.rdX 0 rfl) rfl in_X6 11 (by decide) q1190 (fun _ h9 => h9) rfl dX6_judgeLength_63 ?_
        refine lv_sipush (v := 320) hx hb dX6_judgeLength_66 (by decide) ?_
        refine lv_iload_n hx hb dX6_judgeLength_69 rfl (lv_at hl 2 rfl) ?_
        refine lv_iadd hx hb dX6_judgeLength_70 ?_
        obtain ⟨b22, hw⟩ := hw
        refine x_cald (n := 340) (f := (M 11)) C (hR.rdX 8 rfl) b22 dX6_judgeLength_71 ?_
        refine lv_bipush (v := 48) hx hb dX6_judgeLength_72 (by decide) ?_
        refine lv_bipush (v := 57) hx hb dX6_judgeLength_74 (by decide) ?_
        refine x_calli0 (x_runS (n := 3) (As := [.int ((M 11) ((320 : Int32) + x2).toNatClampNeg), .int 48, .int 57]) C hR hS (kX6_outside l D N0 gp _ _ ((M 11) ((320 : Int32) + x2).toNatClampNeg) 48 57 _ hw) (lw_S q1368 q1369 q104 q1370) rfl rfl (by decide +kernel) ⟨Nat.le_of_ble_eq_true rfl, Nat.le_of_ble_eq_true rfl⟩ rfl hl.1 rfl (Nat.le_of_ble_eq_true rfl) dX6_judgeLength_76 ⟨Nat.le_refl _, Nat.le_refl _⟩) hS (fun r23 X1 h1 H locs hq hR hS => ?_)
        obtain ⟨e1, e2, hw⟩ := hq
        rw [e1, e2] at hR
        refine lv_if_eq (tgt := 86) hx hb dX6_judgeLength_79 (by decide) (fun c24 => ?_) (fun c24 => ?_)
        · have hw := hw.1 c24
          refine lv_iconst (v := 0) hx hb dX6_judgeLength_86 (by decide) ?_
          exact kX6_judgeLength_b87 C hK43 hR hS (lv_sub hl [0, 1, 2] rfl) hw
        · have hw := hw.2 c24
          exact kX6_judgeLength_b82 C hK43 hR hS (lv_sub hl [0, 1, 2] rfl) hw
def wX6_judgeLength_b36 (post : (Nat → Int32) → (Nat → Nat → Int32) → Prop)  (F : (Nat → Int32)) (M : (Nat → Nat → Int32)) (s0 : Int32) : Prop :=
  x_bit s0 ∧ ∃ n19 : Nat, wX6_judgeLength_b43 post n19 (upd F 39 s0) M 0 0
theorem kX6_judgeLength_b36 {post : (Nat → Int32) → (Nat → Nat → Int32) → Prop} (C : x_C p s m args meth c cX6_judgeLength 3 none RX6 D N0 gp) {F : (Nat → Int32)} {M : (Nat → Nat → Int32)} {s0 : Int32} {H : Heap} {locs : List Loc} {ls : Array Slot} (hR : x_R D s N0 (fixM ad F M ++ XF) h H) (hS : va_S (x_A N0) s.heap H locs) (hl : lv_has ls 3 [(0, .ref (ad 1000))]) (hw : wX6_judgeLength_b36 post F M s0) : W p l e rmX6_judgeLength s m args below meth c H locs 0 0 (MQ below (x_Qc D N0 (x_Vv (qMv ad XF h post))) args s 0 0 (x_A N0)) (F0 m 36 ls [.int s0, .ref (ad 1000)]) := by
  obtain ⟨⟨hx, hb, hml, hown, hts⟩, hr, hlocks, hG, hN⟩ := id C
  unfold wX6_judgeLength_b36 at hw
  obtain ⟨z18, hw⟩ := hw
  refine x_putX (ci := 5) (Cn := RX6) (T := TX6) (N := 55) (v := .int s0) C hR hS 0 rfl rfl in_X6 tyX6_ok nmX6 39 (by decide) q1218 (fun _ h9 => h9) rfl (x_bitN z18) (x_bitF z18) (Nat.le_of_ble_eq_true rfl) (sM_f39 ..) dX6_judgeLength_36 (fun H locs hR hS => ?_)
  refine lv_iconst (v := 0) hx hb dX6_judgeLength_39 (by decide) ?_
  refine lv_istore_n (lv' := [(1, .int 0), (0, .ref (ad 1000))]) hx hb dX6_judgeLength_40 rfl hl (by decide) rfl (fun ls hl => ?_)
  refine lv_iconst (v := 0) hx hb dX6_judgeLength_41 (by decide) ?_
  refine lv_istore_n (lv' := [(2, .int 0), (1, .int 0), (0, .ref (ad 1000))]) hx hb dX6_judgeLength_42 rfl hl (by decide) rfl (fun ls hl => ?_)
  obtain ⟨n19, hw⟩ := hw
  exact kX6_judgeLength_b43 C n19 _ _ _ _ _ _ _ hR hS (lv_sub hl [2, 1, 0] rfl) hw
def wX6_judgeLength_b31 (post : (Nat → Int32) → (Nat → Nat → Int32) → Prop)  (F : (Nat → Int32)) (M : (Nat → Nat → Int32)) : Prop :=
  wX6_judgeLength_b36 post F M 1
theorem kX6_judgeLength_b31 {post : (Nat → Int32) → (Nat → Nat → Int32) → Prop} (C : x_C p s m args meth c cX6_judgeLength 3 none RX6 D N0 gp) {F : (Nat → Int32)} {M : (Nat → Nat → Int32)} {H : Heap} {locs : List Loc} {ls : Array Slot} (hR : x_R D s N0 (fixM ad F M ++ XF) h H) (hS : va_S (x_A N0) s.heap H locs) (hl : lv_has ls 3 [(0, .ref (ad 1000))]) (hw : wX6_judgeLength_b31 post F M) : W p l e rmX6_judgeLength s m args below meth c H locs 0 0 (MQ below (x_Qc D N0 (x_Vv (qMv ad XF h post))) args s 0 0 (x_A N0)) (F0 m 31 ls [.ref (ad 1000)]) := by
  obtain ⟨⟨hx, hb, hml, hown, hts⟩, hr, hlocks, hG, hN⟩ := id C
  unfold wX6_judgeLength_b31 at hw
  refine lv_iconst (v := 1) hx hb dX6_judgeLength_31 (by decide) ?_
  refine lv_goto (tgt := 36) hx hb dX6_judgeLength_32 (by decide) ?_
  exact kX6_judgeLength_b36 C hR hS (lv_sub hl [0] rfl) hw
end
def wX6_judgeLength (post : (Nat → Int32) → (Nat → Nat → Int32) → Prop)  (F : (Nat → Int32)) (M : (Nat → Nat → Int32)) : Prop :=
  ((F 39) = 0 → ((F 44) = (-1) → wX6_outside (fun r16 => (r16 = 0 → wX6_judgeLength_b36 post F M 0) ∧ (¬ r16 = 0 → wX6_judgeLength_b31 post F M)) ((M 10) ((16 : Int32).toNatClampNeg)) 1 3) ∧ (¬ (F 44) = (-1) → wX6_judgeLength_b31 post F M)) ∧ (¬ (F 39) = 0 → wX6_judgeLength_b31 post F M)
theorem kX6_judgeLength (l : Launch) (D : va_G) (N0 : Nat) (gp : Nat → Nat) (ad : Nat → Nat) (XF : x_X) (h : x_H)  (F : (Nat → Int32)) (M : (Nat → Nat → Int32)) (post : (Nat → Int32) → (Nat → Nat → Int32) → Prop) (hw : wX6_judgeLength post  F M) : Met l yX6_judgeLength (ws_ yX6_judgeLength cX6_judgeLength 3 none) rmX6_judgeLength (x_Pc D N0 gp (fixM ad F M ++ XF) h [.ref (ad 1000)]) (x_Qc D N0 (x_Vv (qMv ad XF h post))) 0 0 (x_A N0) := by
  refine x_start (lv := [(0, .ref (ad 1000))]) (by decide) rfl (Nat.le_of_ble_eq_true rfl) rfl ?_
  intro p e s m below meth c C hR ls hl
  have hS : va_S (x_A N0) s.heap s.heap [] := va_S.rf
  obtain ⟨⟨hx, hb, hml, hown, hts⟩, hr, hlocks, hG, hN⟩ := id C
  unfold wX6_judgeLength at hw
  refine lv_aload_n hx hb dX6_judgeLength_0 rfl (lv_at hl 0 rfl) ?_
  refine lv_aload_n hx hb dX6_judgeLength_1 rfl (lv_at hl 0 rfl) ?_
  refine x_get (ci := 5) (Cn := RX6) (T := TX6) (N := 55) (v := .int (F 39)) C (hR.rdX 0 rfl) rfl in_X6 39 (by decide) q1218 (fun _ h9 => h9) rfl dX6_judgeLength_2 ?_
  refine lv_if_ne (tgt := 31) hx hb dX6_judgeLength_5 (by decide) (fun c14 => ?_) (fun c14 => ?_)
  · have hw := hw.2 c14
    exact kX6_judgeLength_b31 C hR hS (lv_sub hl [0] rfl) hw
  · have hw := hw.1 c14
    refine lv_aload_n hx hb dX6_judgeLength_8 rfl (lv_at hl 0 rfl) ?_
    refine x_get (ci := 5) (Cn := RX6) (T := TX6) (N := 55) (v := .int (F 44)) C (hR.rdX 0 rfl) rfl in_X6 44 (by decide) q1223 (fun _ h9 => h9) rfl dX6_judgeLength_9 ?_
    refine lv_iconst (v := -1) hx hb dX6_judgeLength_12 (by decide) ?_
    refine lv_icmp_ne (tgt := 31) hx hb dX6_judgeLength_13 (by decide) (fun c15 => ?_) (fun c15 => ?_)
    · have hw := hw.2 c15
      exact kX6_judgeLength_b31 C hR hS (lv_sub hl [0] rfl) hw
    · have hw := hw.1 c15
      refine lv_aload_n hx hb dX6_judgeLength_16 rfl (lv_at hl 0 rfl) ?_
      refine x_get (ci := 5) (Cn := RX6) (T := TX6) (N := 55) (v := .ref (ad 10)) C (hR.rdX 0 rfl) rfl in_X6 10 (by decide) q1189 (fun _ h9 => h9) rfl dX6_judgeLength_17 ?_
      refine lv_bipush (v := 16) hx hb dX6_judgeLength_20 (by decide) ?_
      refine x_iald (n := 17) (f := (M 10)) C (hR.rdX 7 rfl) (by unfold vp_in; decide) dX6_judgeLength_22 ?_
      refine lv_iconst (v := 1) hx hb dX6_judgeLength_23 (by decide) ?_
      refine lv_iconst (v := 3) hx hb dX6_judgeLength_24 (by decide) ?_
      refine x_calli0 (x_runS (n := 3) (As := [.int ((M 10) ((16 : Int32).toNatClampNeg)), .int 1, .int 3]) C hR hS (kX6_outside l D N0 gp _ _ ((M 10) ((16 : Int32).toNatClampNeg)) 1 3 _ hw) (lw_S q1368 q1369 q104 q1370) rfl rfl (by decide +kernel) ⟨Nat.le_of_ble_eq_true rfl, Nat.le_of_ble_eq_true rfl⟩ rfl hl.1 rfl (Nat.le_of_ble_eq_true rfl) dX6_judgeLength_25 ⟨Nat.le_refl _, Nat.le_refl _⟩) hS (fun r16 X1 h1 H locs hq hR hS => ?_)
      obtain ⟨e1, e2, hw⟩ := hq
      rw [e1, e2] at hR
      refine lv_if_eq (tgt := 35) hx hb dX6_judgeLength_28 (by decide) (fun c17 => ?_) (fun c17 => ?_)
      · have hw := hw.1 c17
        refine lv_iconst (v := 0) hx hb dX6_judgeLength_35 (by decide) ?_
        exact kX6_judgeLength_b36 C hR hS (lv_sub hl [0] rfl) hw
      · have hw := hw.2 c17
        exact kX6_judgeLength_b31 C hR hS (lv_sub hl [0] rfl) hw
/-- PageServerModel.judge()V -/
abbrev rmX6_judge : Room := { frames := 2, cells := 0, slots := 0, locals := 44 }
section
variable {p : Program} {l : Launch} {e : Env} {s : State} {m : MethodId} {args : Array Value} {below : List Frame} {meth : Method} {c : Code} {D : va_G} {N0 : Nat} {gp : Nat → Nat} {ad : Nat → Nat} {XF : x_X} {h : x_H}
def wX6_judge_b243 (post : (Nat → Int32) → (Nat → Nat → Int32) → Prop)  (F : (Nat → Int32)) (M : (Nat → Nat → Int32)) : Prop :=
  post F M
theorem kX6_judge_b243 {post : (Nat → Int32) → (Nat → Nat → Int32) → Prop} (C : x_C p s m args meth c cX6_judge 4 none RX6 D N0 gp) {F : (Nat → Int32)} {M : (Nat → Nat → Int32)} {H : Heap} {locs : List Loc} {ls : Array Slot} (hR : x_R D s N0 (fixM ad F M ++ XF) h H) (hS : va_S (x_A N0) s.heap H locs) (hl : lv_has ls 4 []) (hw : wX6_judge_b243 post F M) : W p l e rmX6_judge s m args below meth c H locs 0 0 (MQ below (x_Qc D N0 (x_Vv (qMv ad XF h post))) args s 0 0 (x_A N0)) (F0 m 243 ls []) := by
  obtain ⟨⟨hx, hb, hml, hown, hts⟩, hr, hlocks, hG, hN⟩ := id C
  unfold wX6_judge_b243 at hw
  exact x_endv C hR hS ⟨rfl, ⟨_, _, rfl, rfl, hw⟩⟩ (Nat.le_refl _) (Nat.le_refl _) dX6_judge_243
def wX6_judge_b79 (post : (Nat → Int32) → (Nat → Nat → Int32) → Prop)  (F : (Nat → Int32)) (M : (Nat → Nat → Int32)) (s0 : Int32) : Prop :=
  x_bit s0 ∧ wX6_methodOf (fun r46 => wX6_judge_b243 post (upd (upd F 39 s0) 42 r46) M) (upd F 39 s0) M
theorem kX6_judge_b79 {post : (Nat → Int32) → (Nat → Nat → Int32) → Prop} (C : x_C p s m args meth c cX6_judge 4 none RX6 D N0 gp) {F : (Nat → Int32)} {M : (Nat → Nat → Int32)} {s0 : Int32} {H : Heap} {locs : List Loc} {ls : Array Slot} (hR : x_R D s N0 (fixM ad F M ++ XF) h H) (hS : va_S (x_A N0) s.heap H locs) (hl : lv_has ls 4 [(0, .ref (ad 1000))]) (hw : wX6_judge_b79 post F M s0) : W p l e rmX6_judge s m args below meth c H locs 0 0 (MQ below (x_Qc D N0 (x_Vv (qMv ad XF h post))) args s 0 0 (x_A N0)) (F0 m 79 ls [.int s0, .ref (ad 1000)]) := by
  obtain ⟨⟨hx, hb, hml, hown, hts⟩, hr, hlocks, hG, hN⟩ := id C
  unfold wX6_judge_b79 at hw
  obtain ⟨z45, hw⟩ := hw
  refine x_putX (ci := 5) (Cn := RX6) (T := TX6) (N := 55) (v := .int s0) C hR hS 0 rfl rfl in_X6 tyX6_ok nmX6 39 (by decide) q1218 (fun _ h9 => h9) rfl (x_bitN z45) (x_bitF z45) (Nat.le_of_ble_eq_true rfl) (sM_f39 ..) dX6_judge_79 (fun H locs hR hS => ?_)
  refine lv_aload_n hx hb dX6_judge_82 rfl (lv_at hl 0 rfl) ?_
  refine lv_aload_n hx hb dX6_judge_83 rfl (lv_at hl 0 rfl) ?_
  refine x_calli0 (x_runV (n := 0) (As := []) C hR hS (kX6_methodOf l D N0 gp ad XF _ (upd F 39 s0) M _ hw) (lw_V q1495 q1497 qs72 q104 q1498) rfl rfl (by decide +kernel) ⟨Nat.le_of_ble_eq_true rfl, Nat.le_of_ble_eq_true rfl⟩ (x_recv C (hR.rdX 0 rfl) rfl) rfl hl.1 rfl (Nat.le_of_ble_eq_true rfl) dX6_judge_84 ⟨Nat.le_refl _, Nat.le_refl _⟩) hS (fun r46 X1 h1 H locs hq hR hS => ?_)
  obtain ⟨e1, e2, hw⟩ := hq
  rw [e1, e2] at hR
  refine x_putX (ci := 5) (Cn := RX6) (T := TX6) (N := 55) (v := .int r46) C hR hS 0 rfl rfl in_X6 tyX6_ok nmX6 42 (by decide) q1221 (fun _ h9 => h9) rfl rfl rfl (Nat.le_of_ble_eq_true rfl) (sM_f42 ..) dX6_judge_87 (fun H locs hR hS => ?_)
  refine lv_goto (tgt := 243) hx hb dX6_judge_90 (by decide) ?_
  exact kX6_judge_b243 C hR hS (lv_sub hl [] rfl) hw
def wX6_judge_b74 (post : (Nat → Int32) → (Nat → Nat → Int32) → Prop)  (F : (Nat → Int32)) (M : (Nat → Nat → Int32)) : Prop :=
  wX6_judge_b79 post F M 1
theorem kX6_judge_b74 {post : (Nat → Int32) → (Nat → Nat → Int32) → Prop} (C : x_C p s m args meth c cX6_judge 4 none RX6 D N0 gp) {F : (Nat → Int32)} {M : (Nat → Nat → Int32)} {H : Heap} {locs : List Loc} {ls : Array Slot} (hR : x_R D s N0 (fixM ad F M ++ XF) h H) (hS : va_S (x_A N0) s.heap H locs) (hl : lv_has ls 4 [(0, .ref (ad 1000))]) (hw : wX6_judge_b74 post F M) : W p l e rmX6_judge s m args below meth c H locs 0 0 (MQ below (x_Qc D N0 (x_Vv (qMv ad XF h post))) args s 0 0 (x_A N0)) (F0 m 74 ls [.ref (ad 1000)]) := by
  obtain ⟨⟨hx, hb, hml, hown, hts⟩, hr, hlocks, hG, hN⟩ := id C
  unfold wX6_judge_b74 at hw
  refine lv_iconst (v := 1) hx hb dX6_judge_74 (by decide) ?_
  refine lv_goto (tgt := 79) hx hb dX6_judge_75 (by decide) ?_
  exact kX6_judge_b79 C hR hS (lv_sub hl [0] rfl) hw
def wX6_judge_b173 (post : (Nat → Int32) → (Nat → Nat → Int32) → Prop)  (F : (Nat → Int32)) (M : (Nat → Nat → Int32)) : Prop :=
  wX6_judge_b243 post F M
theorem kX6_judge_b173 {post : (Nat → Int32) → (Nat → Nat → Int32) → Prop} (C : x_C p s m args meth c cX6_judge 4 none RX6 D N0 gp) {F : (Nat → Int32)} {M : (Nat → Nat → Int32)} {H : Heap} {locs : List Loc} {ls : Array Slot} (hR : x_R D s N0 (fixM ad F M ++ XF) h H) (hS : va_S (x_A N0) s.heap H locs) (hl : lv_has ls 4 []) (hw : wX6_judge_b173 post F M) : W p l e rmX6_judge s m args below meth c H locs 0 0 (MQ below (x_Qc D N0 (x_Vv (qMv ad XF h post))) args s 0 0 (x_A N0)) (F0 m 173 ls []) := by
  obtain ⟨⟨hx, hb, hml, hown, hts⟩, hr, hlocks, hG, hN⟩ := id C
  unfold wX6_judge_b173 at hw
  refine lv_goto (tgt := 243) hx hb dX6_judge_173 (by decide) ?_
  exact kX6_judge_b243 C hR hS (lv_sub hl [] rfl) hw
def tX6_judge_b145 (post : (Nat → Int32) → (Nat → Nat → Int32) → Prop) (K145 : (Nat → Int32) → (Nat → Nat → Int32) → Int32 → Prop)  (F : (Nat → Int32)) (M : (Nat → Nat → Int32)) (x3 : Int32) : Prop :=
  ((20 : Int32) ≤ x3 → wX6_judge_b173 post F M) ∧ (¬ (20 : Int32) ≤ x3 → vp_in ((320 : Int32) + x3) 340 ∧ vp_in x3 20 ∧ K145 F (va_up M 46 (upd (M 46) x3.toNatClampNeg (vp_nar .char ((M 11) ((320 : Int32) + x3).toNatClampNeg)))) (x3 + 1))
def wX6_judge_b145 (post : (Nat → Int32) → (Nat → Nat → Int32) → Prop)  : Nat → (Nat → Int32) → (Nat → Nat → Int32) → Int32 → Prop
  | 0 => fun _ _ _ => False
  | n + 1 => fun F M x3 => tX6_judge_b145 post (wX6_judge_b145 post n)  F M x3
theorem kX6_judge_b145 {post : (Nat → Int32) → (Nat → Nat → Int32) → Prop} (C : x_C p s m args meth c cX6_judge 4 none RX6 D N0 gp) : ∀ (nn : Nat) (F : (Nat → Int32)) (M : (Nat → Nat → Int32)) (x3 : Int32) (H : Heap) (locs : List Loc) (ls : Array Slot), x_R D s N0 (fixM ad F M ++ XF) h H → va_S (x_A N0) s.heap H locs → lv_has ls 4 [(0, .ref (ad 1000)), (3, .int x3)] → wX6_judge_b145 post nn F M x3 → W p l e rmX6_judge s m args below meth c H locs 0 0 (MQ below (x_Qc D N0 (x_Vv (qMv ad XF h post))) args s 0 0 (x_A N0)) (F0 m 145 ls []) := by
  obtain ⟨⟨hx, hb, hml, hown, hts⟩, hr, hlocks, hG, hN⟩ := id C
  intro nn
  induction nn with
  | zero =>
    intro F M x3 H locs ls hR hS hl hw
    exact False.elim hw
  | succ nn ih =>
    intro F M x3 H locs ls hR hS hl hw
    have hK145 := ih
    have hw : tX6_judge_b145 post (wX6_judge_b145 post nn)  F M x3 := hw
    unfold tX6_judge_b145 at hw
    refine lv_iload_n hx hb dX6_judge_145 rfl (lv_at hl 1 rfl) ?_
    refine lv_bipush (v := 20) hx hb dX6_judge_146 (by decide) ?_
    refine lv_icmp_ge (tgt := 173) hx hb dX6_judge_148 (by decide) (fun c49 => ?_) (fun c49 => ?_)
    · have hw := hw.1 c49
      exact kX6_judge_b173 C hR hS (lv_sub hl [] rfl) hw
    · have hw := hw.2 c49
      refine lv_aload_n hx hb dX6_judge_151 rfl (lv_at hl 0 rfl) ?_
      refine x_get (ci := 5) (Cn := RX6) (T := TX6) (N := 55) (v := .ref (ad 46)) C (hR.rdX 0 rfl) rfl in_X6 46 (by decide) q1225 (fun _ h9 => h9) rfl dX6_judge_152 ?_
      refine lv_iload_n hx hb dX6_judge_155 rfl (lv_at hl 1 rfl) ?_
      refine lv_aload_n hx hb dX6_judge_156 rfl (lv_at hl 0 rfl) ?_
      refine x_get (ci := 5) (Cn := RX6) (T := TX6) (N := 55) (v := .ref (ad 11)) C (hR.rdX 0 rfl) rfl in_X6 11 (by decide) q1190 (fun _ h9 => h9) rfl dX6_judge_157 ?_
      refine lv_sipush (v := 320) hx hb dX6_judge_160 (by decide) ?_
      refine lv_iload_n hx hb dX6_judge_163 rfl (lv_at hl 1 rfl) ?_
      refine lv_iadd hx hb dX6_judge_164 ?_
      obtain ⟨b50, hw⟩ := hw
      refine x_cald (n := 340) (f := (M 11)) C (hR.rdX 8 rfl) b50 dX6_judge_165 ?_
      obtain ⟨b51, hw⟩ := hw
      refine x_castX (n := 20) (f := (M 46)) C hR hS 21 rfl b51 (sM_a46 ..) dX6_judge_166 (fun H locs hR hS => ?_)
      refine lv_iinc (v := x3 + 1) (lv' := [(3, .int (x3 + 1)), (0, .ref (ad 1000))]) hx hb dX6_judge_167 hl (k := 1) rfl (x_inc 1 1 (by decide)) (by decide) rfl (fun ls hl => ?_)
      refine lv_goto (tgt := 145) hx hb dX6_judge_170 (by decide) ?_
      exact hK145 _ _ _ _ _ _ hR hS (lv_sub hl [1, 0] rfl) hw
def wX6_judge_b124 (post : (Nat → Int32) → (Nat → Nat → Int32) → Prop)  (F : (Nat → Int32)) (M : (Nat → Nat → Int32)) (s0 : Int32) : Prop :=
  x_bit s0 ∧ ∃ n48 : Nat, wX6_judge_b145 post n48 (upd (upd (upd F 39 s0) 43 1) 45 ((M 10) ((16 : Int32).toNatClampNeg))) M 0
theorem kX6_judge_b124 {post : (Nat → Int32) → (Nat → Nat → Int32) → Prop} (C : x_C p s m args meth c cX6_judge 4 none RX6 D N0 gp) {F : (Nat → Int32)} {M : (Nat → Nat → Int32)} {s0 : Int32} {H : Heap} {locs : List Loc} {ls : Array Slot} (hR : x_R D s N0 (fixM ad F M ++ XF) h H) (hS : va_S (x_A N0) s.heap H locs) (hl : lv_has ls 4 [(0, .ref (ad 1000))]) (hw : wX6_judge_b124 post F M s0) : W p l e rmX6_judge s m args below meth c H locs 0 0 (MQ below (x_Qc D N0 (x_Vv (qMv ad XF h post))) args s 0 0 (x_A N0)) (F0 m 124 ls [.int s0, .ref (ad 1000)]) := by
  obtain ⟨⟨hx, hb, hml, hown, hts⟩, hr, hlocks, hG, hN⟩ := id C
  unfold wX6_judge_b124 at hw
  obtain ⟨z47, hw⟩ := hw
  refine x_putX (ci := 5) (Cn := RX6) (T := TX6) (N := 55) (v := .int s0) C hR hS 0 rfl rfl in_X6 tyX6_ok nmX6 39 (by decide) q1218 (fun _ h9 => h9) rfl (x_bitN z47) (x_bitF z47) (Nat.le_of_ble_eq_true rfl) (sM_f39 ..) dX6_judge_124 (fun H locs hR hS => ?_)
  refine lv_aload_n hx hb dX6_judge_127 rfl (lv_at hl 0 rfl) ?_
  refine lv_iconst (v := 1) hx hb dX6_judge_128 (by decide) ?_
  refine x_putX (ci := 5) (Cn := RX6) (T := TX6) (N := 55) (v := .int 1) C hR hS 0 rfl rfl in_X6 tyX6_ok nmX6 43 (by decide) q1222 (fun _ h9 => h9) rfl rfl rfl (Nat.le_of_ble_eq_true rfl) (sM_f43 ..) dX6_judge_129 (fun H locs hR hS => ?_)
  refine lv_aload_n hx hb dX6_judge_132 rfl (lv_at hl 0 rfl) ?_
  refine lv_aload_n hx hb dX6_judge_133 rfl (lv_at hl 0 rfl) ?_
  refine x_get (ci := 5) (Cn := RX6) (T := TX6) (N := 55) (v := .ref (ad 10)) C (hR.rdX 0 rfl) rfl in_X6 10 (by decide) q1189 (fun _ h9 => h9) rfl dX6_judge_134 ?_
  refine lv_bipush (v := 16) hx hb dX6_judge_137 (by decide) ?_
  refine x_iald (n := 17) (f := (M 10)) C (hR.rdX 7 rfl) (by unfold vp_in; decide) dX6_judge_139 ?_
  refine x_putX (ci := 5) (Cn := RX6) (T := TX6) (N := 55) (v := .int ((M 10) ((16 : Int32).toNatClampNeg))) C hR hS 0 rfl rfl in_X6 tyX6_ok nmX6 45 (by decide) q1224 (fun _ h9 => h9) rfl rfl rfl (Nat.le_of_ble_eq_true rfl) (sM_f45 ..) dX6_judge_140 (fun H locs hR hS => ?_)
  refine lv_iconst (v := 0) hx hb dX6_judge_143 (by decide) ?_
  refine lv_istore_n (lv' := [(3, .int 0), (0, .ref (ad 1000))]) hx hb dX6_judge_144 rfl hl (by decide) rfl (fun ls hl => ?_)
  obtain ⟨n48, hw⟩ := hw
  exact kX6_judge_b145 C n48 _ _ _ _ _ _ hR hS (lv_sub hl [1, 0] rfl) hw
def wX6_judge_b119 (post : (Nat → Int32) → (Nat → Nat → Int32) → Prop)  (F : (Nat → Int32)) (M : (Nat → Nat → Int32)) : Prop :=
  wX6_judge_b124 post F M 1
theorem kX6_judge_b119 {post : (Nat → Int32) → (Nat → Nat → Int32) → Prop} (C : x_C p s m args meth c cX6_judge 4 none RX6 D N0 gp) {F : (Nat → Int32)} {M : (Nat → Nat → Int32)} {H : Heap} {locs : List Loc} {ls : Array Slot} (hR : x_R D s N0 (fixM ad F M ++ XF) h H) (hS : va_S (x_A N0) s.heap H locs) (hl : lv_has ls 4 [(0, .ref (ad 1000))]) (hw : wX6_judge_b119 post F M) : W p l e rmX6_judge s m args below meth c H locs 0 0 (MQ below (x_Qc D N0 (x_Vv (qMv ad XF h post))) args s 0 0 (x_A N0)) (F0 m 119 ls [.ref (ad 1000)]) := by
  obtain ⟨⟨hx, hb, hml, hown, hts⟩, hr, hlocks, hG, hN⟩ := id C
  unfold wX6_judge_b119 at hw
  refine lv_iconst (v := 1) hx hb dX6_judge_119 (by decide) ?_
  refine lv_goto (tgt := 124) hx hb dX6_judge_120 (by decide) ?_
  exact kX6_judge_b124 C hR hS (lv_sub hl [0] rfl) hw
def wX6_judge_b223 (post : (Nat → Int32) → (Nat → Nat → Int32) → Prop) (K183 : (Nat → Int32) → (Nat → Nat → Int32) → Int32 → Prop)  (F : (Nat → Int32)) (M : (Nat → Nat → Int32)) (x3 : Int32) (s0 : Int32) : Prop :=
  x_bit s0 ∧ K183 (upd F 39 s0) M (x3 + 1)
theorem kX6_judge_b223 {post : (Nat → Int32) → (Nat → Nat → Int32) → Prop} {K183 : (Nat → Int32) → (Nat → Nat → Int32) → Int32 → Prop} (C : x_C p s m args meth c cX6_judge 4 none RX6 D N0 gp) (hK183 : ∀ (F : (Nat → Int32)) (M : (Nat → Nat → Int32)) (x3 : Int32) (H : Heap) (locs : List Loc) (ls : Array Slot), x_R D s N0 (fixM ad F M ++ XF) h H → va_S (x_A N0) s.heap H locs → lv_has ls 4 [(0, .ref (ad 1000)), (3, .int x3)] → K183 F M x3 → W p l e rmX6_judge s m args below meth c H locs 0 0 (MQ below (x_Qc D N0 (x_Vv (qMv ad XF h post))) args s 0 0 (x_A N0)) (F0 m 183 ls [])) {F : (Nat → Int32)} {M : (Nat → Nat → Int32)} {x3 : Int32} {s0 : Int32} {H : Heap} {locs : List Loc} {ls : Array Slot} (hR : x_R D s N0 (fixM ad F M ++ XF) h H) (hS : va_S (x_A N0) s.heap H locs) (hl : lv_has ls 4 [(0, .ref (ad 1000)), (3, .int x3)]) (hw : wX6_judge_b223 post K183 F M x3 s0) : W p l e rmX6_judge s m args below meth c H locs 0 0 (MQ below (x_Qc D N0 (x_Vv (qMv ad XF h post))) args s 0 0 (x_A N0)) (F0 m 223 ls [.int s0, .ref (ad 1000)]) := by
  obtain ⟨⟨hx, hb, hml, hown, hts⟩, hr, hlocks, hG, hN⟩ := id C
  unfold wX6_judge_b223 at hw
  obtain ⟨z57, hw⟩ := hw
  refine x_putX (ci := 5) (Cn := RX6) (T := TX6) (N := 55) (v := .int s0) C hR hS 0 rfl rfl in_X6 tyX6_ok nmX6 39 (by decide) q1218 (fun _ h9 => h9) rfl (x_bitN z57) (x_bitF z57) (Nat.le_of_ble_eq_true rfl) (sM_f39 ..) dX6_judge_223 (fun H locs hR hS => ?_)
  refine lv_iinc (v := x3 + 1) (lv' := [(3, .int (x3 + 1)), (0, .ref (ad 1000))]) hx hb dX6_judge_226 hl (k := 1) rfl (x_inc 1 1 (by decide)) (by decide) rfl (fun ls hl => ?_)
  refine lv_goto (tgt := 183) hx hb dX6_judge_229 (by decide) ?_
  exact hK183 _ _ _ _ _ _ hR hS (lv_sub hl [1, 0] rfl) hw
def wX6_judge_b218 (post : (Nat → Int32) → (Nat → Nat → Int32) → Prop) (K183 : (Nat → Int32) → (Nat → Nat → Int32) → Int32 → Prop)  (F : (Nat → Int32)) (M : (Nat → Nat → Int32)) (x3 : Int32) : Prop :=
  wX6_judge_b223 post K183 F M x3 1
theorem kX6_judge_b218 {post : (Nat → Int32) → (Nat → Nat → Int32) → Prop} {K183 : (Nat → Int32) → (Nat → Nat → Int32) → Int32 → Prop} (C : x_C p s m args meth c cX6_judge 4 none RX6 D N0 gp) (hK183 : ∀ (F : (Nat → Int32)) (M : (Nat → Nat → Int32)) (x3 : Int32) (H : Heap) (locs : List Loc) (ls : Array Slot), x_R D s N0 (fixM ad F M ++ XF) h H → va_S (x_A N0) s.heap H locs → lv_has ls 4 [(0, .ref (ad 1000)), (3, .int x3)] → K183 F M x3 → W p l e rmX6_judge s m args below meth c H locs 0 0 (MQ below (x_Qc D N0 (x_Vv (qMv ad XF h post))) args s 0 0 (x_A N0)) (F0 m 183 ls [])) {F : (Nat → Int32)} {M : (Nat → Nat → Int32)} {x3 : Int32} {H : Heap} {locs : List Loc} {ls : Array Slot} (hR : x_R D s N0 (fixM ad F M ++ XF) h H) (hS : va_S (x_A N0) s.heap H locs) (hl : lv_has ls 4 [(0, .ref (ad 1000)), (3, .int x3)]) (hw : wX6_judge_b218 post K183 F M x3) : W p l e rmX6_judge s m args below meth c H locs 0 0 (MQ below (x_Qc D N0 (x_Vv (qMv ad XF h post))) args s 0 0 (x_A N0)) (F0 m 218 ls [.ref (ad 1000)]) := by
  obtain ⟨⟨hx, hb, hml, hown, hts⟩, hr, hlocks, hG, hN⟩ := id C
  unfold wX6_judge_b218 at hw
  refine lv_iconst (v := 1) hx hb dX6_judge_218 (by decide) ?_
  refine lv_goto (tgt := 223) hx hb dX6_judge_219 (by decide) ?_
  exact kX6_judge_b223 C hK183 hR hS (lv_sub hl [0, 1] rfl) hw
def wX6_judge_b232 (post : (Nat → Int32) → (Nat → Nat → Int32) → Prop)  (F : (Nat → Int32)) (M : (Nat → Nat → Int32)) : Prop :=
  wX6_isLength (fun r58 => (r58 = 0 → wX6_judge_b243 post F M) ∧ (¬ r58 = 0 → wX6_judgeLength (fun F60 M60 => wX6_judge_b243 post F60 M60) F M)) F M
theorem kX6_judge_b232 {post : (Nat → Int32) → (Nat → Nat → Int32) → Prop} (C : x_C p s m args meth c cX6_judge 4 none RX6 D N0 gp) {F : (Nat → Int32)} {M : (Nat → Nat → Int32)} {H : Heap} {locs : List Loc} {ls : Array Slot} (hR : x_R D s N0 (fixM ad F M ++ XF) h H) (hS : va_S (x_A N0) s.heap H locs) (hl : lv_has ls 4 [(0, .ref (ad 1000))]) (hw : wX6_judge_b232 post F M) : W p l e rmX6_judge s m args below meth c H locs 0 0 (MQ below (x_Qc D N0 (x_Vv (qMv ad XF h post))) args s 0 0 (x_A N0)) (F0 m 232 ls []) := by
  obtain ⟨⟨hx, hb, hml, hown, hts⟩, hr, hlocks, hG, hN⟩ := id C
  unfold wX6_judge_b232 at hw
  refine lv_aload_n hx hb dX6_judge_232 rfl (lv_at hl 0 rfl) ?_
  refine x_calli0 (x_runV (n := 0) (As := []) C hR hS (kX6_isLength l D N0 gp ad XF _ F M _ hw) (lw_V q1499 q1501 qs73 q104 q1502) rfl rfl (by decide +kernel) ⟨Nat.le_of_ble_eq_true rfl, Nat.le_of_ble_eq_true rfl⟩ (x_recv C (hR.rdX 0 rfl) rfl) rfl hl.1 rfl (Nat.le_of_ble_eq_true rfl) dX6_judge_233 ⟨Nat.le_refl _, Nat.le_refl _⟩) hS (fun r58 X1 h1 H locs hq hR hS => ?_)
  obtain ⟨e1, e2, hw⟩ := hq
  rw [e1, e2] at hR
  refine lv_if_eq (tgt := 243) hx hb dX6_judge_236 (by decide) (fun c59 => ?_) (fun c59 => ?_)
  · have hw := hw.1 c59
    exact kX6_judge_b243 C hR hS (lv_sub hl [] rfl) hw
  · have hw := hw.2 c59
    refine lv_aload_n hx hb dX6_judge_239 rfl (lv_at hl 0 rfl) ?_
    refine x_callv0 (x_runV (n := 0) (As := []) C hR hS (kX6_judgeLength l D N0 gp ad XF _ F M _ hw) (lw_V q1503 q1505 qs74 q104 q1506) rfl rfl (by decide +kernel) ⟨Nat.le_of_ble_eq_true rfl, Nat.le_of_ble_eq_true rfl⟩ (x_recv C (hR.rdX 0 rfl) rfl) rfl hl.1 rfl (Nat.le_of_ble_eq_true rfl) dX6_judge_240 ⟨Nat.le_refl _, Nat.le_refl _⟩) hS (fun X1 h1 H locs hq hR hS => ?_)
    obtain ⟨F60, M60, e1, e2, hw⟩ := hq
    rw [e1, e2] at hR
    exact kX6_judge_b243 C hR hS (lv_sub hl [] rfl) hw
def tX6_judge_b183 (post : (Nat → Int32) → (Nat → Nat → Int32) → Prop) (K183 : (Nat → Int32) → (Nat → Nat → Int32) → Int32 → Prop)  (F : (Nat → Int32)) (M : (Nat → Nat → Int32)) (x3 : Int32) : Prop :=
  (((M 8) ((16 : Int32).toNatClampNeg)) ≤ x3 → wX6_judge_b232 post F M) ∧ (¬ ((M 8) ((16 : Int32).toNatClampNeg)) ≤ x3 → ((F 39) = 0 → vp_in ((320 : Int32) + x3) 340 ∧ wX6_isLetter (fun r55 => (r55 = 0 → wX6_judge_b218 post K183 F M x3) ∧ (¬ r55 = 0 → wX6_judge_b223 post K183 F M x3 0)) ((M 9) ((320 : Int32) + x3).toNatClampNeg)) ∧ (¬ (F 39) = 0 → wX6_judge_b218 post K183 F M x3))
def wX6_judge_b183 (post : (Nat → Int32) → (Nat → Nat → Int32) → Prop)  : Nat → (Nat → Int32) → (Nat → Nat → Int32) → Int32 → Prop
  | 0 => fun _ _ _ => False
  | n + 1 => fun F M x3 => tX6_judge_b183 post (wX6_judge_b183 post n)  F M x3
theorem kX6_judge_b183 {post : (Nat → Int32) → (Nat → Nat → Int32) → Prop} (C : x_C p s m args meth c cX6_judge 4 none RX6 D N0 gp) : ∀ (nn : Nat) (F : (Nat → Int32)) (M : (Nat → Nat → Int32)) (x3 : Int32) (H : Heap) (locs : List Loc) (ls : Array Slot), x_R D s N0 (fixM ad F M ++ XF) h H → va_S (x_A N0) s.heap H locs → lv_has ls 4 [(0, .ref (ad 1000)), (3, .int x3)] → wX6_judge_b183 post nn F M x3 → W p l e rmX6_judge s m args below meth c H locs 0 0 (MQ below (x_Qc D N0 (x_Vv (qMv ad XF h post))) args s 0 0 (x_A N0)) (F0 m 183 ls []) := by
  obtain ⟨⟨hx, hb, hml, hown, hts⟩, hr, hlocks, hG, hN⟩ := id C
  intro nn
  induction nn with
  | zero =>
    intro F M x3 H locs ls hR hS hl hw
    exact False.elim hw
  | succ nn ih =>
    intro F M x3 H locs ls hR hS hl hw
    have hK183 := ih
    have hw : tX6_judge_b183 post (wX6_judge_b183 post nn)  F M x3 := hw
    unfold tX6_judge_b183 at hw
    refine lv_iload_n hx hb dX6_judge_183 rfl (lv_at hl 1 rfl) ?_
    refine lv_aload_n hx hb dX6_judge_184 rfl (lv_at hl 0 rfl) ?_
    refine x_get (ci := 5) (Cn := RX6) (T := TX6) (N := 55) (v := .ref (ad 8)) C (hR.rdX 0 rfl) rfl in_X6 8 (by decide) q1187 (fun _ h9 => h9) rfl dX6_judge_185 ?_
    refine lv_bipush (v := 16) hx hb dX6_judge_188 (by decide) ?_
    refine x_iald (n := 17) (f := (M 8)) C (hR.rdX 5 rfl) (by unfold vp_in; decide) dX6_judge_190 ?_
    refine lv_icmp_ge (tgt := 232) hx hb dX6_judge_191 (by decide) (fun c52 => ?_) (fun c52 => ?_)
    · have hw := hw.1 c52
      exact kX6_judge_b232 C hR hS (lv_sub hl [0] rfl) hw
    · have hw := hw.2 c52
      refine lv_aload_n hx hb dX6_judge_194 rfl (lv_at hl 0 rfl) ?_
      refine lv_aload_n hx hb dX6_judge_195 rfl (lv_at hl 0 rfl) ?_
      refine x_get (ci := 5) (Cn := RX6) (T := TX6) (N := 55) (v := .int (F 39)) C (hR.rdX 0 rfl) rfl in_X6 39 (by decide) q1218 (fun _ h9 => h9) rfl dX6_judge_196 ?_
      refine lv_if_ne (tgt := 218) hx hb dX6_judge_199 (by decide) (fun c53 => ?_) (fun c53 => ?_)
      · have hw := hw.2 c53
        exact kX6_judge_b218 C hK183 hR hS (lv_sub hl [0, 1] rfl) hw
      · have hw := hw.1 c53
        refine lv_aload_n hx hb dX6_judge_202 rfl (lv_at hl 0 rfl) ?_
        refine x_get (ci := 5) (Cn := RX6) (T := TX6) (N := 55) (v := .ref (ad 9)) C (hR.rdX 0 rfl) rfl in_X6 9 (by decide) q1188 (fun _ h9 => h9) rfl dX6_judge_203 ?_
        refine lv_sipush (v := 320) hx hb dX6_judge_206 (by decide) ?_
        refine lv_iload_n hx hb dX6_judge_209 rfl (lv_at hl 1 rfl) ?_
        refine lv_iadd hx hb dX6_judge_210 ?_
        obtain ⟨b54, hw⟩ := hw
        refine x_cald (n := 340) (f := (M 9)) C (hR.rdX 6 rfl) b54 dX6_judge_211 ?_
        refine x_calli0 (x_runS (n := 1) (As := [.int ((M 9) ((320 : Int32) + x3).toNatClampNeg)]) C hR hS (kX6_isLetter l D N0 gp _ _ ((M 9) ((320 : Int32) + x3).toNatClampNeg) _ hw) (lw_S q1362 q1363 q104 q1364) rfl rfl (by decide +kernel) ⟨Nat.le_of_ble_eq_true rfl, Nat.le_of_ble_eq_true rfl⟩ rfl hl.1 rfl (Nat.le_of_ble_eq_true rfl) dX6_judge_212 ⟨Nat.le_refl _, Nat.le_refl _⟩) hS (fun r55 X1 h1 H locs hq hR hS => ?_)
        obtain ⟨e1, e2, hw⟩ := hq
        rw [e1, e2] at hR
        refine lv_if_ne (tgt := 222) hx hb dX6_judge_215 (by decide) (fun c56 => ?_) (fun c56 => ?_)
        · have hw := hw.2 c56
          refine lv_iconst (v := 0) hx hb dX6_judge_222 (by decide) ?_
          exact kX6_judge_b223 C hK183 hR hS (lv_sub hl [0, 1] rfl) hw
        · have hw := hw.1 c56
          exact kX6_judge_b218 C hK183 hR hS (lv_sub hl [0, 1] rfl) hw
def wX6_judge_b26 (post : (Nat → Int32) → (Nat → Nat → Int32) → Prop)  (F : (Nat → Int32)) (M : (Nat → Nat → Int32)) (s0 : Int32) : Prop :=
  x_bit s0 ∧ wX6_isNamed (fun r34 => wX6_isNamed (fun r35 => (r34 = 0 → (r35 = 0 → ∃ n38 : Nat, wX6_judge_b183 post n38 (upd (upd F 40 s0) 41 1) M 0) ∧ (¬ r35 = 0 → ((F 39) = 0 → ((F 41) = 0 → ((F 43) = 0 → wX6_judge_b124 post (upd F 40 s0) M 0) ∧ (¬ (F 43) = 0 → wX6_judge_b119 post (upd F 40 s0) M)) ∧ (¬ (F 41) = 0 → wX6_judge_b119 post (upd F 40 s0) M)) ∧ (¬ (F 39) = 0 → wX6_judge_b119 post (upd F 40 s0) M))) ∧ (¬ r34 = 0 → ((F 39) = 0 → ((F 41) = 0 → ((F 42) = (-1) → wX6_judge_b79 post (upd F 40 s0) M 0) ∧ (¬ (F 42) = (-1) → wX6_judge_b74 post (upd F 40 s0) M)) ∧ (¬ (F 41) = 0 → wX6_judge_b74 post (upd F 40 s0) M)) ∧ (¬ (F 39) = 0 → wX6_judge_b74 post (upd F 40 s0) M))) 16 112 (upd F 40 s0) M) 16 109 (upd F 40 s0) M
theorem kX6_judge_b26 {post : (Nat → Int32) → (Nat → Nat → Int32) → Prop} (C : x_C p s m args meth c cX6_judge 4 none RX6 D N0 gp) {F : (Nat → Int32)} {M : (Nat → Nat → Int32)} {s0 : Int32} {H : Heap} {locs : List Loc} {ls : Array Slot} (hR : x_R D s N0 (fixM ad F M ++ XF) h H) (hS : va_S (x_A N0) s.heap H locs) (hl : lv_has ls 4 [(0, .ref (ad 1000))]) (hw : wX6_judge_b26 post F M s0) : W p l e rmX6_judge s m args below meth c H locs 0 0 (MQ below (x_Qc D N0 (x_Vv (qMv ad XF h post))) args s 0 0 (x_A N0)) (F0 m 26 ls [.int s0, .ref (ad 1000)]) := by
  obtain ⟨⟨hx, hb, hml, hown, hts⟩, hr, hlocks, hG, hN⟩ := id C
  unfold wX6_judge_b26 at hw
  obtain ⟨z33, hw⟩ := hw
  refine x_putX (ci := 5) (Cn := RX6) (T := TX6) (N := 55) (v := .int s0) C hR hS 0 rfl rfl in_X6 tyX6_ok nmX6 40 (by decide) q1219 (fun _ h9 => h9) rfl (x_bitN z33) (x_bitF z33) (Nat.le_of_ble_eq_true rfl) (sM_f40 ..) dX6_judge_26 (fun H locs hR hS => ?_)
  refine lv_aload_n hx hb dX6_judge_29 rfl (lv_at hl 0 rfl) ?_
  refine lv_bipush (v := 16) hx hb dX6_judge_30 (by decide) ?_
  refine lv_bipush (v := 109) hx hb dX6_judge_32 (by decide) ?_
  refine x_calli0 (x_runV (n := 2) (As := [.int 16, .int 109]) C hR hS (kX6_isNamed l D N0 gp ad XF _ 16 109 (upd F 40 s0) M _ hw) (lw_V q1491 q1493 qs71 q104 q1494) rfl rfl (by decide +kernel) ⟨Nat.le_of_ble_eq_true rfl, Nat.le_of_ble_eq_true rfl⟩ (x_recv C (hR.rdX 0 rfl) rfl) rfl hl.1 rfl (Nat.le_of_ble_eq_true rfl) dX6_judge_34 ⟨Nat.le_refl _, Nat.le_refl _⟩) hS (fun r34 X1 h1 H locs hq hR hS => ?_)
  obtain ⟨e1, e2, hw⟩ := hq
  rw [e1, e2] at hR
  refine lv_istore_n (lv' := [(1, .int r34), (0, .ref (ad 1000))]) hx hb dX6_judge_37 rfl hl (by decide) rfl (fun ls hl => ?_)
  refine lv_aload_n hx hb dX6_judge_38 rfl (lv_at hl 1 rfl) ?_
  refine lv_bipush (v := 16) hx hb dX6_judge_39 (by decide) ?_
  refine lv_bipush (v := 112) hx hb dX6_judge_41 (by decide) ?_
  refine x_calli0 (x_runV (n := 2) (As := [.int 16, .int 112]) C hR hS (kX6_isNamed l D N0 gp ad XF _ 16 112 (upd F 40 s0) M _ hw) (lw_V q1491 q1493 qs71 q104 q1494) rfl rfl (by decide +kernel) ⟨Nat.le_of_ble_eq_true rfl, Nat.le_of_ble_eq_true rfl⟩ (x_recv C (hR.rdX 0 rfl) rfl) rfl hl.1 rfl (Nat.le_of_ble_eq_true rfl) dX6_judge_43 ⟨Nat.le_refl _, Nat.le_refl _⟩) hS (fun r35 X1 h1 H locs hq hR hS => ?_)
  obtain ⟨e1, e2, hw⟩ := hq
  rw [e1, e2] at hR
  refine lv_istore_n (lv' := [(2, .int r35), (1, .int r34), (0, .ref (ad 1000))]) hx hb dX6_judge_46 rfl hl (by decide) rfl (fun ls hl => ?_)
  refine lv_iload_n hx hb dX6_judge_47 rfl (lv_at hl 1 rfl) ?_
  refine lv_if_eq (tgt := 93) hx hb dX6_judge_48 (by decide) (fun c36 => ?_) (fun c36 => ?_)
  · have hw := hw.1 c36
    refine lv_iload_n hx hb dX6_judge_93 rfl (lv_at hl 0 rfl) ?_
    refine lv_if_eq (tgt := 176) hx hb dX6_judge_94 (by decide) (fun c37 => ?_) (fun c37 => ?_)
    · have hw := hw.1 c37
      refine lv_aload_n hx hb dX6_judge_176 rfl (lv_at hl 2 rfl) ?_
      refine lv_iconst (v := 1) hx hb dX6_judge_177 (by decide) ?_
      refine x_putX (ci := 5) (Cn := RX6) (T := TX6) (N := 55) (v := .int 1) C hR hS 0 rfl rfl in_X6 tyX6_ok nmX6 41 (by decide) q1220 (fun _ h9 => h9) rfl rfl rfl (Nat.le_of_ble_eq_true rfl) (sM_f41 ..) dX6_judge_178 (fun H locs hR hS => ?_)
      refine lv_iconst (v := 0) hx hb dX6_judge_181 (by decide) ?_
      refine lv_istore_n (lv' := [(3, .int 0), (2, .int r35), (1, .int r34), (0, .ref (ad 1000))]) hx hb dX6_judge_182 rfl hl (by decide) rfl (fun ls hl => ?_)
      obtain ⟨n38, hw⟩ := hw
      exact kX6_judge_b183 C n38 _ _ _ _ _ _ hR hS (lv_sub hl [3, 0] rfl) hw
    · have hw := hw.2 c37
      refine lv_aload_n hx hb dX6_judge_97 rfl (lv_at hl 2 rfl) ?_
      refine lv_aload_n hx hb dX6_judge_98 rfl (lv_at hl 2 rfl) ?_
      refine x_get (ci := 5) (Cn := RX6) (T := TX6) (N := 55) (v := .int (F 39)) C (hR.rdX 0 rfl) rfl in_X6 39 (by decide) q1218 (fun _ h9 => h9) rfl dX6_judge_99 ?_
      refine lv_if_ne (tgt := 119) hx hb dX6_judge_102 (by decide) (fun c39 => ?_) (fun c39 => ?_)
      · have hw := hw.2 c39
        exact kX6_judge_b119 C hR hS (lv_sub hl [2] rfl) hw
      · have hw := hw.1 c39
        refine lv_aload_n hx hb dX6_judge_105 rfl (lv_at hl 2 rfl) ?_
        refine x_get (ci := 5) (Cn := RX6) (T := TX6) (N := 55) (v := .int (F 41)) C (hR.rdX 0 rfl) rfl in_X6 41 (by decide) q1220 (fun _ h9 => h9) rfl dX6_judge_106 ?_
        refine lv_if_ne (tgt := 119) hx hb dX6_judge_109 (by decide) (fun c40 => ?_) (fun c40 => ?_)
        · have hw := hw.2 c40
          exact kX6_judge_b119 C hR hS (lv_sub hl [2] rfl) hw
        · have hw := hw.1 c40
          refine lv_aload_n hx hb dX6_judge_112 rfl (lv_at hl 2 rfl) ?_
          refine x_get (ci := 5) (Cn := RX6) (T := TX6) (N := 55) (v := .int (F 43)) C (hR.rdX 0 rfl) rfl in_X6 43 (by decide) q1222 (fun _ h9 => h9) rfl dX6_judge_113 ?_
          refine lv_if_eq (tgt := 123) hx hb dX6_judge_116 (by decide) (fun c41 => ?_) (fun c41 => ?_)
          · have hw := hw.1 c41
            refine lv_iconst (v := 0) hx hb dX6_judge_123 (by decide) ?_
            exact kX6_judge_b124 C hR hS (lv_sub hl [2] rfl) hw
          · have hw := hw.2 c41
            exact kX6_judge_b119 C hR hS (lv_sub hl [2] rfl) hw
  · have hw := hw.2 c36
    refine lv_aload_n hx hb dX6_judge_51 rfl (lv_at hl 2 rfl) ?_
    refine lv_aload_n hx hb dX6_judge_52 rfl (lv_at hl 2 rfl) ?_
    refine x_get (ci := 5) (Cn := RX6) (T := TX6) (N := 55) (v := .int (F 39)) C (hR.rdX 0 rfl) rfl in_X6 39 (by decide) q1218 (fun _ h9 => h9) rfl dX6_judge_53 ?_
    refine lv_if_ne (tgt := 74) hx hb dX6_judge_56 (by decide) (fun c42 => ?_) (fun c42 => ?_)
    · have hw := hw.2 c42
      exact kX6_judge_b74 C hR hS (lv_sub hl [2] rfl) hw
    · have hw := hw.1 c42
      refine lv_aload_n hx hb dX6_judge_59 rfl (lv_at hl 2 rfl) ?_
      refine x_get (ci := 5) (Cn := RX6) (T := TX6) (N := 55) (v := .int (F 41)) C (hR.rdX 0 rfl) rfl in_X6 41 (by decide) q1220 (fun _ h9 => h9) rfl dX6_judge_60 ?_
      refine lv_if_ne (tgt := 74) hx hb dX6_judge_63 (by decide) (fun c43 => ?_) (fun c43 => ?_)
      · have hw := hw.2 c43
        exact kX6_judge_b74 C hR hS (lv_sub hl [2] rfl) hw
      · have hw := hw.1 c43
        refine lv_aload_n hx hb dX6_judge_66 rfl (lv_at hl 2 rfl) ?_
        refine x_get (ci := 5) (Cn := RX6) (T := TX6) (N := 55) (v := .int (F 42)) C (hR.rdX 0 rfl) rfl in_X6 42 (by decide) q1221 (fun _ h9 => h9) rfl dX6_judge_67 ?_
        refine lv_iconst (v := -1) hx hb dX6_judge_70 (by decide) ?_
        refine lv_icmp_eq (tgt := 78) hx hb dX6_judge_71 (by decide) (fun c44 => ?_) (fun c44 => ?_)
        · have hw := hw.1 c44
          refine lv_iconst (v := 0) hx hb dX6_judge_78 (by decide) ?_
          exact kX6_judge_b79 C hR hS (lv_sub hl [2] rfl) hw
        · have hw := hw.2 c44
          exact kX6_judge_b74 C hR hS (lv_sub hl [2] rfl) hw
def wX6_judge_b21 (post : (Nat → Int32) → (Nat → Nat → Int32) → Prop)  (F : (Nat → Int32)) (M : (Nat → Nat → Int32)) : Prop :=
  wX6_judge_b26 post F M 1
theorem kX6_judge_b21 {post : (Nat → Int32) → (Nat → Nat → Int32) → Prop} (C : x_C p s m args meth c cX6_judge 4 none RX6 D N0 gp) {F : (Nat → Int32)} {M : (Nat → Nat → Int32)} {H : Heap} {locs : List Loc} {ls : Array Slot} (hR : x_R D s N0 (fixM ad F M ++ XF) h H) (hS : va_S (x_A N0) s.heap H locs) (hl : lv_has ls 4 [(0, .ref (ad 1000))]) (hw : wX6_judge_b21 post F M) : W p l e rmX6_judge s m args below meth c H locs 0 0 (MQ below (x_Qc D N0 (x_Vv (qMv ad XF h post))) args s 0 0 (x_A N0)) (F0 m 21 ls [.ref (ad 1000)]) := by
  obtain ⟨⟨hx, hb, hml, hown, hts⟩, hr, hlocks, hG, hN⟩ := id C
  unfold wX6_judge_b21 at hw
  refine lv_iconst (v := 1) hx hb dX6_judge_21 (by decide) ?_
  refine lv_goto (tgt := 26) hx hb dX6_judge_22 (by decide) ?_
  exact kX6_judge_b26 C hR hS (lv_sub hl [0] rfl) hw
end
def wX6_judge (post : (Nat → Int32) → (Nat → Nat → Int32) → Prop)  (F : (Nat → Int32)) (M : (Nat → Nat → Int32)) : Prop :=
  ((F 40) = 0 → (((M 9) ((320 : Int32).toNatClampNeg)) = 58 → wX6_judge_b21 post F M) ∧ (¬ ((M 9) ((320 : Int32).toNatClampNeg)) = 58 → wX6_judge_b26 post F M 0)) ∧ (¬ (F 40) = 0 → wX6_judge_b21 post F M)
theorem kX6_judge (l : Launch) (D : va_G) (N0 : Nat) (gp : Nat → Nat) (ad : Nat → Nat) (XF : x_X) (h : x_H)  (F : (Nat → Int32)) (M : (Nat → Nat → Int32)) (post : (Nat → Int32) → (Nat → Nat → Int32) → Prop) (hw : wX6_judge post  F M) : Met l yX6_judge (ws_ yX6_judge cX6_judge 4 none) rmX6_judge (x_Pc D N0 gp (fixM ad F M ++ XF) h [.ref (ad 1000)]) (x_Qc D N0 (x_Vv (qMv ad XF h post))) 0 0 (x_A N0) := by
  refine x_start (lv := [(0, .ref (ad 1000))]) (by decide) rfl (Nat.le_of_ble_eq_true rfl) rfl ?_
  intro p e s m below meth c C hR ls hl
  have hS : va_S (x_A N0) s.heap s.heap [] := va_S.rf
  obtain ⟨⟨hx, hb, hml, hown, hts⟩, hr, hlocks, hG, hN⟩ := id C
  unfold wX6_judge at hw
  refine lv_aload_n hx hb dX6_judge_0 rfl (lv_at hl 0 rfl) ?_
  refine lv_aload_n hx hb dX6_judge_1 rfl (lv_at hl 0 rfl) ?_
  refine x_get (ci := 5) (Cn := RX6) (T := TX6) (N := 55) (v := .int (F 40)) C (hR.rdX 0 rfl) rfl in_X6 40 (by decide) q1219 (fun _ h9 => h9) rfl dX6_judge_2 ?_
  refine lv_if_ne (tgt := 21) hx hb dX6_judge_5 (by decide) (fun c31 => ?_) (fun c31 => ?_)
  · have hw := hw.2 c31
    exact kX6_judge_b21 C hR hS (lv_sub hl [0] rfl) hw
  · have hw := hw.1 c31
    refine lv_aload_n hx hb dX6_judge_8 rfl (lv_at hl 0 rfl) ?_
    refine x_get (ci := 5) (Cn := RX6) (T := TX6) (N := 55) (v := .ref (ad 9)) C (hR.rdX 0 rfl) rfl in_X6 9 (by decide) q1188 (fun _ h9 => h9) rfl dX6_judge_9 ?_
    refine lv_sipush (v := 320) hx hb dX6_judge_12 (by decide) ?_
    refine x_cald (n := 340) (f := (M 9)) C (hR.rdX 6 rfl) (by unfold vp_in; decide) dX6_judge_15 ?_
    refine lv_bipush (v := 58) hx hb dX6_judge_16 (by decide) ?_
    refine lv_icmp_ne (tgt := 25) hx hb dX6_judge_18 (by decide) (fun c32 => ?_) (fun c32 => ?_)
    · have hw := hw.2 c32
      refine lv_iconst (v := 0) hx hb dX6_judge_25 (by decide) ?_
      exact kX6_judge_b26 C hR hS (lv_sub hl [0] rfl) hw
    · have hw := hw.1 c32
      exact kX6_judge_b21 C hR hS (lv_sub hl [0] rfl) hw
/-- PageServerModel.readField(I)V -/
abbrev rmX6_readField : Room := { frames := 4, cells := 0, slots := 0, locals := 85 }
section
variable {p : Program} {l : Launch} {e : Env} {s : State} {m : MethodId} {args : Array Value} {below : List Frame} {meth : Method} {c : Code} {D : va_G} {N0 : Nat} {gp : Nat → Nat} {ad : Nat → Nat} {XF : x_X} {h : x_H}
def wX6_readField_b176 (post : (Nat → Int32) → (Nat → Nat → Int32) → Prop) (p1 : Int32) (F : (Nat → Int32)) (M : (Nat → Nat → Int32)) : Prop :=
  ((F 37) = 0 → post F M) ∧ (¬ (F 37) = 0 → wX6_judge (fun F37 M37 => post F37 M37) (upd F 38 ((F 38) + 1)) M)
theorem kX6_readField_b176 {post : (Nat → Int32) → (Nat → Nat → Int32) → Prop} {p1 : Int32} (C : x_C p s m args meth c cX6_readField 2 none RX6 D N0 gp) {F : (Nat → Int32)} {M : (Nat → Nat → Int32)} {H : Heap} {locs : List Loc} {ls : Array Slot} (hR : x_R D s N0 (fixM ad F M ++ XF) h H) (hS : va_S (x_A N0) s.heap H locs) (hl : lv_has ls 2 [(0, .ref (ad 1000))]) (hw : wX6_readField_b176 post p1 F M) : W p l e rmX6_readField s m args below meth c H locs 0 0 (MQ below (x_Qc D N0 (x_Vv (qMv ad XF h post))) args s 0 0 (x_A N0)) (F0 m 176 ls []) := by
  obtain ⟨⟨hx, hb, hml, hown, hts⟩, hr, hlocks, hG, hN⟩ := id C
  unfold wX6_readField_b176 at hw
  refine lv_aload_n hx hb dX6_readField_176 rfl (lv_at hl 0 rfl) ?_
  refine x_get (ci := 5) (Cn := RX6) (T := TX6) (N := 55) (v := .int (F 37)) C (hR.rdX 0 rfl) rfl in_X6 37 (by decide) q1216 (fun _ h9 => h9) rfl dX6_readField_177 ?_
  refine lv_if_ne (tgt := 184) hx hb dX6_readField_180 (by decide) (fun c36 => ?_) (fun c36 => ?_)
  · have hw := hw.2 c36
    refine lv_aload_n hx hb dX6_readField_184 rfl (lv_at hl 0 rfl) ?_
    refine lv_dup hx hb dX6_readField_185 rfl ?_
    refine x_get (ci := 5) (Cn := RX6) (T := TX6) (N := 55) (v := .int (F 38)) C (hR.rdX 0 rfl) rfl in_X6 38 (by decide) q1217 (fun _ h9 => h9) rfl dX6_readField_186 ?_
    refine lv_iconst (v := 1) hx hb dX6_readField_189 (by decide) ?_
    refine lv_iadd hx hb dX6_readField_190 ?_
    refine x_putX (ci := 5) (Cn := RX6) (T := TX6) (N := 55) (v := .int ((F 38) + 1)) C hR hS 0 rfl rfl in_X6 tyX6_ok nmX6 38 (by decide) q1217 (fun _ h9 => h9) rfl rfl rfl (Nat.le_of_ble_eq_true rfl) (sM_f38 ..) dX6_readField_191 (fun H locs hR hS => ?_)
    refine lv_aload_n hx hb dX6_readField_194 rfl (lv_at hl 0 rfl) ?_
    refine x_callv0 (x_runV (n := 0) (As := []) C hR hS (kX6_judge l D N0 gp ad XF _ (upd F 38 ((F 38) + 1)) M _ hw) (lw_V q1487 q1489 qs70 q104 q1490) rfl rfl (by decide +kernel) ⟨Nat.le_of_ble_eq_true rfl, Nat.le_of_ble_eq_true rfl⟩ (x_recv C (hR.rdX 0 rfl) rfl) rfl hl.1 rfl (Nat.le_of_ble_eq_true rfl) dX6_readField_195 ⟨Nat.le_refl _, Nat.le_refl _⟩) hS (fun X1 h1 H locs hq hR hS => ?_)
    obtain ⟨F37, M37, e1, e2, hw⟩ := hq
    rw [e1, e2] at hR
    exact x_endv C hR hS ⟨rfl, ⟨_, _, rfl, rfl, hw⟩⟩ (Nat.le_refl _) (Nat.le_refl _) dX6_readField_198
  · have hw := hw.1 c36
    exact x_endv C hR hS ⟨rfl, ⟨_, _, rfl, rfl, hw⟩⟩ (Nat.le_refl _) (Nat.le_refl _) dX6_readField_183
def wX6_readField_b34 (post : (Nat → Int32) → (Nat → Nat → Int32) → Prop) (p1 : Int32) (F : (Nat → Int32)) (M : (Nat → Nat → Int32)) (s0 : Int32) : Prop :=
  x_bit s0 ∧ (s0 = 0 → wX6_readField_b176 post p1 (upd F 37 s0) M) ∧ (¬ s0 = 0 → wX6_copy (fun F35 M35 => wX6_readField_b176 post p1 F35 M35) (p1 - 129) 16 (upd F 37 s0) M)
theorem kX6_readField_b34 {post : (Nat → Int32) → (Nat → Nat → Int32) → Prop} {p1 : Int32} (C : x_C p s m args meth c cX6_readField 2 none RX6 D N0 gp) {F : (Nat → Int32)} {M : (Nat → Nat → Int32)} {s0 : Int32} {H : Heap} {locs : List Loc} {ls : Array Slot} (hR : x_R D s N0 (fixM ad F M ++ XF) h H) (hS : va_S (x_A N0) s.heap H locs) (hl : lv_has ls 2 [(0, .ref (ad 1000)), (1, .int p1)]) (hw : wX6_readField_b34 post p1 F M s0) : W p l e rmX6_readField s m args below meth c H locs 0 0 (MQ below (x_Qc D N0 (x_Vv (qMv ad XF h post))) args s 0 0 (x_A N0)) (F0 m 34 ls [.int s0, .ref (ad 1000)]) := by
  obtain ⟨⟨hx, hb, hml, hown, hts⟩, hr, hlocks, hG, hN⟩ := id C
  unfold wX6_readField_b34 at hw
  obtain ⟨z33, hw⟩ := hw
  refine x_putX (ci := 5) (Cn := RX6) (T := TX6) (N := 55) (v := .int s0) C hR hS 0 rfl rfl in_X6 tyX6_ok nmX6 37 (by decide) q1216 (fun _ h9 => h9) rfl (x_bitN z33) (x_bitF z33) (Nat.le_of_ble_eq_true rfl) (sM_f37 ..) dX6_readField_34 (fun H locs hR hS => ?_)
  refine lv_aload_n hx hb dX6_readField_37 rfl (lv_at hl 0 rfl) ?_
  refine x_get (ci := 5) (Cn := RX6) (T := TX6) (N := 55) (v := .int s0) C (hR.rdX 0 rfl) rfl in_X6 37 (by decide) q1216 (fun _ h9 => h9) rfl dX6_readField_38 ?_
  refine lv_if_eq (tgt := 176) hx hb dX6_readField_41 (by decide) (fun c34 => ?_) (fun c34 => ?_)
  · have hw := hw.1 c34
    exact kX6_readField_b176 C hR hS (lv_sub hl [0] rfl) hw
  · have hw := hw.2 c34
    refine lv_aload_n hx hb dX6_readField_44 rfl (lv_at hl 0 rfl) ?_
    refine lv_iload_n hx hb dX6_readField_45 rfl (lv_at hl 1 rfl) ?_
    refine lv_sipush (v := 129) hx hb dX6_readField_46 (by decide) ?_
    refine lv_isub hx hb dX6_readField_49 ?_
    refine lv_bipush (v := 16) hx hb dX6_readField_50 (by decide) ?_
    refine x_callv0 (x_runV (n := 2) (As := [.int (p1 - 129), .int 16]) C hR hS (kX6_copy l D N0 gp ad XF _ (p1 - 129) 16 (upd F 37 s0) M _ hw) (lw_V q1459 q1461 qs63 q104 q1462) rfl rfl (by decide +kernel) ⟨Nat.le_of_ble_eq_true rfl, Nat.le_of_ble_eq_true rfl⟩ (x_recv C (hR.rdX 0 rfl) rfl) rfl hl.1 rfl (Nat.le_of_ble_eq_true rfl) dX6_readField_52 ⟨Nat.le_refl _, Nat.le_refl _⟩) hS (fun X1 h1 H locs hq hR hS => ?_)
    obtain ⟨F35, M35, e1, e2, hw⟩ := hq
    rw [e1, e2] at hR
    refine lv_goto (tgt := 176) hx hb dX6_readField_55 (by decide) ?_
    exact kX6_readField_b176 C hR hS (lv_sub hl [0] rfl) hw
def wX6_readField_b33 (post : (Nat → Int32) → (Nat → Nat → Int32) → Prop) (p1 : Int32) (F : (Nat → Int32)) (M : (Nat → Nat → Int32)) : Prop :=
  wX6_readField_b34 post p1 F M 0
theorem kX6_readField_b33 {post : (Nat → Int32) → (Nat → Nat → Int32) → Prop} {p1 : Int32} (C : x_C p s m args meth c cX6_readField 2 none RX6 D N0 gp) {F : (Nat → Int32)} {M : (Nat → Nat → Int32)} {H : Heap} {locs : List Loc} {ls : Array Slot} (hR : x_R D s N0 (fixM ad F M ++ XF) h H) (hS : va_S (x_A N0) s.heap H locs) (hl : lv_has ls 2 [(0, .ref (ad 1000)), (1, .int p1)]) (hw : wX6_readField_b33 post p1 F M) : W p l e rmX6_readField s m args below meth c H locs 0 0 (MQ below (x_Qc D N0 (x_Vv (qMv ad XF h post))) args s 0 0 (x_A N0)) (F0 m 33 ls [.ref (ad 1000)]) := by
  obtain ⟨⟨hx, hb, hml, hown, hts⟩, hr, hlocks, hG, hN⟩ := id C
  unfold wX6_readField_b33 at hw
  refine lv_iconst (v := 0) hx hb dX6_readField_33 (by decide) ?_
  exact kX6_readField_b34 C hR hS (lv_sub hl [0, 1] rfl) hw
def wX6_readField_b107 (post : (Nat → Int32) → (Nat → Nat → Int32) → Prop) (p1 : Int32) (F : (Nat → Int32)) (M : (Nat → Nat → Int32)) : Prop :=
  ((F 37) = 0 → wX6_readField_b176 post p1 F M) ∧ (¬ (F 37) = 0 → (p1 ≤ 63 → wX6_readField_b176 post p1 F M) ∧ (¬ p1 ≤ 63 → wX6_insert (fun F45 M45 => wX6_readField_b176 post p1 F45 M45) F M))
theorem kX6_readField_b107 {post : (Nat → Int32) → (Nat → Nat → Int32) → Prop} {p1 : Int32} (C : x_C p s m args meth c cX6_readField 2 none RX6 D N0 gp) {F : (Nat → Int32)} {M : (Nat → Nat → Int32)} {H : Heap} {locs : List Loc} {ls : Array Slot} (hR : x_R D s N0 (fixM ad F M ++ XF) h H) (hS : va_S (x_A N0) s.heap H locs) (hl : lv_has ls 2 [(0, .ref (ad 1000)), (1, .int p1)]) (hw : wX6_readField_b107 post p1 F M) : W p l e rmX6_readField s m args below meth c H locs 0 0 (MQ below (x_Qc D N0 (x_Vv (qMv ad XF h post))) args s 0 0 (x_A N0)) (F0 m 107 ls []) := by
  obtain ⟨⟨hx, hb, hml, hown, hts⟩, hr, hlocks, hG, hN⟩ := id C
  unfold wX6_readField_b107 at hw
  refine lv_aload_n hx hb dX6_readField_107 rfl (lv_at hl 0 rfl) ?_
  refine x_get (ci := 5) (Cn := RX6) (T := TX6) (N := 55) (v := .int (F 37)) C (hR.rdX 0 rfl) rfl in_X6 37 (by decide) q1216 (fun _ h9 => h9) rfl dX6_readField_108 ?_
  refine lv_if_eq (tgt := 176) hx hb dX6_readField_111 (by decide) (fun c43 => ?_) (fun c43 => ?_)
  · have hw := hw.1 c43
    exact kX6_readField_b176 C hR hS (lv_sub hl [0] rfl) hw
  · have hw := hw.2 c43
    refine lv_iload_n hx hb dX6_readField_114 rfl (lv_at hl 1 rfl) ?_
    refine lv_bipush (v := 63) hx hb dX6_readField_115 (by decide) ?_
    refine lv_icmp_le (tgt := 176) hx hb dX6_readField_117 (by decide) (fun c44 => ?_) (fun c44 => ?_)
    · have hw := hw.1 c44
      exact kX6_readField_b176 C hR hS (lv_sub hl [0] rfl) hw
    · have hw := hw.2 c44
      refine lv_aload_n hx hb dX6_readField_120 rfl (lv_at hl 0 rfl) ?_
      refine x_callv0 (x_runV (n := 0) (As := []) C hR hS (kX6_insert l D N0 gp ad XF _ F M _ hw) (lw_V q1471 q1473 qs66 q104 q1474) rfl rfl (by decide +kernel) ⟨Nat.le_of_ble_eq_true rfl, Nat.le_of_ble_eq_true rfl⟩ (x_recv C (hR.rdX 0 rfl) rfl) rfl hl.1 rfl (Nat.le_of_ble_eq_true rfl) dX6_readField_121 ⟨Nat.le_refl _, Nat.le_refl _⟩) hS (fun X1 h1 H locs hq hR hS => ?_)
      obtain ⟨F45, M45, e1, e2, hw⟩ := hq
      rw [e1, e2] at hR
      refine lv_goto (tgt := 176) hx hb dX6_readField_124 (by decide) ?_
      exact kX6_readField_b176 C hR hS (lv_sub hl [0] rfl) hw
def wX6_readField_b85 (post : (Nat → Int32) → (Nat → Nat → Int32) → Prop) (p1 : Int32) (F : (Nat → Int32)) (M : (Nat → Nat → Int32)) (s0 : Int32) : Prop :=
  wX6_readName (fun F39 M39 => ((F39 37) = 0 → wX6_readField_b107 post p1 F39 M39) ∧ (¬ (F39 37) = 0 → wX6_readString (fun r41 F42 M42 => wX6_readField_b107 post p1 F42 (va_up M42 10 (upd (M42 10) ((16 : Int32).toNatClampNeg) r41))) 0 F39 M39)) s0 F M
theorem kX6_readField_b85 {post : (Nat → Int32) → (Nat → Nat → Int32) → Prop} {p1 : Int32} (C : x_C p s m args meth c cX6_readField 2 none RX6 D N0 gp) {F : (Nat → Int32)} {M : (Nat → Nat → Int32)} {s0 : Int32} {H : Heap} {locs : List Loc} {ls : Array Slot} (hR : x_R D s N0 (fixM ad F M ++ XF) h H) (hS : va_S (x_A N0) s.heap H locs) (hl : lv_has ls 2 [(0, .ref (ad 1000)), (1, .int p1)]) (hw : wX6_readField_b85 post p1 F M s0) : W p l e rmX6_readField s m args below meth c H locs 0 0 (MQ below (x_Qc D N0 (x_Vv (qMv ad XF h post))) args s 0 0 (x_A N0)) (F0 m 85 ls [.int s0, .ref (ad 1000)]) := by
  obtain ⟨⟨hx, hb, hml, hown, hts⟩, hr, hlocks, hG, hN⟩ := id C
  unfold wX6_readField_b85 at hw
  refine x_callv0 (x_runV (n := 1) (As := [.int s0]) C hR hS (kX6_readName l D N0 gp ad XF _ s0 F M _ hw) (lw_V q1463 q1465 qs64 q104 q1466) rfl rfl (by decide +kernel) ⟨Nat.le_of_ble_eq_true rfl, Nat.le_of_ble_eq_true rfl⟩ (x_recv C (hR.rdX 0 rfl) rfl) rfl hl.1 rfl (Nat.le_of_ble_eq_true rfl) dX6_readField_85 ⟨Nat.le_refl _, Nat.le_refl _⟩) hS (fun X1 h1 H locs hq hR hS => ?_)
  obtain ⟨F39, M39, e1, e2, hw⟩ := hq
  rw [e1, e2] at hR
  refine lv_aload_n hx hb dX6_readField_88 rfl (lv_at hl 0 rfl) ?_
  refine x_get (ci := 5) (Cn := RX6) (T := TX6) (N := 55) (v := .int (F39 37)) C (hR.rdX 0 rfl) rfl in_X6 37 (by decide) q1216 (fun _ h9 => h9) rfl dX6_readField_89 ?_
  refine lv_if_eq (tgt := 107) hx hb dX6_readField_92 (by decide) (fun c40 => ?_) (fun c40 => ?_)
  · have hw := hw.1 c40
    exact kX6_readField_b107 C hR hS (lv_sub hl [0, 1] rfl) hw
  · have hw := hw.2 c40
    refine lv_aload_n hx hb dX6_readField_95 rfl (lv_at hl 0 rfl) ?_
    refine x_get (ci := 5) (Cn := RX6) (T := TX6) (N := 55) (v := .ref (ad 10)) C (hR.rdX 0 rfl) rfl in_X6 10 (by decide) q1189 (fun _ h9 => h9) rfl dX6_readField_96 ?_
    refine lv_bipush (v := 16) hx hb dX6_readField_99 (by decide) ?_
    refine lv_aload_n hx hb dX6_readField_101 rfl (lv_at hl 0 rfl) ?_
    refine lv_iconst (v := 0) hx hb dX6_readField_102 (by decide) ?_
    refine x_calli0 (x_runV (n := 1) (As := [.int 0]) C hR hS (kX6_readString l D N0 gp ad XF _ 0 F39 M39 _ hw) (lw_V q1467 q1469 qs65 q104 q1470) rfl rfl (by decide +kernel) ⟨Nat.le_of_ble_eq_true rfl, Nat.le_of_ble_eq_true rfl⟩ (x_recv C (hR.rdX 0 rfl) rfl) rfl hl.1 rfl (Nat.le_of_ble_eq_true rfl) dX6_readField_103 ⟨Nat.le_refl _, Nat.le_refl _⟩) hS (fun r41 X1 h1 H locs hq hR hS => ?_)
    obtain ⟨F42, M42, e1, e2, hw⟩ := hq
    rw [e1, e2] at hR
    refine x_iastX (n := 17) (f := (M42 10)) C hR hS 7 rfl (by unfold vp_in; decide) (sM_a10 ..) dX6_readField_106 (fun H locs hR hS => ?_)
    exact kX6_readField_b107 C hR hS (lv_sub hl [0, 1] rfl) hw
def wX6_readField_b70 (post : (Nat → Int32) → (Nat → Nat → Int32) → Prop) (p1 : Int32) (F : (Nat → Int32)) (M : (Nat → Nat → Int32)) : Prop :=
  (p1 ≤ 63 → wX6_readField_b85 post p1 F M p1) ∧ (¬ p1 ≤ 63 → wX6_readField_b85 post p1 F M (p1 - 64))
theorem kX6_readField_b70 {post : (Nat → Int32) → (Nat → Nat → Int32) → Prop} {p1 : Int32} (C : x_C p s m args meth c cX6_readField 2 none RX6 D N0 gp) {F : (Nat → Int32)} {M : (Nat → Nat → Int32)} {H : Heap} {locs : List Loc} {ls : Array Slot} (hR : x_R D s N0 (fixM ad F M ++ XF) h H) (hS : va_S (x_A N0) s.heap H locs) (hl : lv_has ls 2 [(0, .ref (ad 1000)), (1, .int p1)]) (hw : wX6_readField_b70 post p1 F M) : W p l e rmX6_readField s m args below meth c H locs 0 0 (MQ below (x_Qc D N0 (x_Vv (qMv ad XF h post))) args s 0 0 (x_A N0)) (F0 m 70 ls []) := by
  obtain ⟨⟨hx, hb, hml, hown, hts⟩, hr, hlocks, hG, hN⟩ := id C
  unfold wX6_readField_b70 at hw
  refine lv_aload_n hx hb dX6_readField_70 rfl (lv_at hl 0 rfl) ?_
  refine lv_iload_n hx hb dX6_readField_71 rfl (lv_at hl 1 rfl) ?_
  refine lv_bipush (v := 63) hx hb dX6_readField_72 (by decide) ?_
  refine lv_icmp_le (tgt := 84) hx hb dX6_readField_74 (by decide) (fun c38 => ?_) (fun c38 => ?_)
  · have hw := hw.1 c38
    refine lv_iload_n hx hb dX6_readField_84 rfl (lv_at hl 1 rfl) ?_
    exact kX6_readField_b85 C hR hS (lv_sub hl [0, 1] rfl) hw
  · have hw := hw.2 c38
    refine lv_iload_n hx hb dX6_readField_77 rfl (lv_at hl 1 rfl) ?_
    refine lv_bipush (v := 64) hx hb dX6_readField_78 (by decide) ?_
    refine lv_isub hx hb dX6_readField_80 ?_
    refine lv_goto (tgt := 85) hx hb dX6_readField_81 (by decide) ?_
    exact kX6_readField_b85 C hR hS (lv_sub hl [0, 1] rfl) hw
def wX6_readField_b175 (post : (Nat → Int32) → (Nat → Nat → Int32) → Prop) (p1 : Int32) (F : (Nat → Int32)) (M : (Nat → Nat → Int32)) : Prop :=
  post F M
theorem kX6_readField_b175 {post : (Nat → Int32) → (Nat → Nat → Int32) → Prop} {p1 : Int32} (C : x_C p s m args meth c cX6_readField 2 none RX6 D N0 gp) {F : (Nat → Int32)} {M : (Nat → Nat → Int32)} {H : Heap} {locs : List Loc} {ls : Array Slot} (hR : x_R D s N0 (fixM ad F M ++ XF) h H) (hS : va_S (x_A N0) s.heap H locs) (hl : lv_has ls 2 []) (hw : wX6_readField_b175 post p1 F M) : W p l e rmX6_readField s m args below meth c H locs 0 0 (MQ below (x_Qc D N0 (x_Vv (qMv ad XF h post))) args s 0 0 (x_A N0)) (F0 m 175 ls []) := by
  obtain ⟨⟨hx, hb, hml, hown, hts⟩, hr, hlocks, hG, hN⟩ := id C
  unfold wX6_readField_b175 at hw
  exact x_endv C hR hS ⟨rfl, ⟨_, _, rfl, rfl, hw⟩⟩ (Nat.le_refl _) (Nat.le_refl _) dX6_readField_175
def wX6_readField_b152 (post : (Nat → Int32) → (Nat → Nat → Int32) → Prop) (p1 : Int32) (F : (Nat → Int32)) (M : (Nat → Nat → Int32)) (s0 : Int32) : Prop :=
  x_bit s0 ∧ (s0 = 0 → wX6_readField_b175 post p1 (upd F 37 s0) M) ∧ (¬ s0 = 0 → wX6_evict (fun F48 M48 => wX6_readField_b175 post p1 F48 M48) 0 (upd (upd F 37 s0) 7 (p1 - 32)) M)
theorem kX6_readField_b152 {post : (Nat → Int32) → (Nat → Nat → Int32) → Prop} {p1 : Int32} (C : x_C p s m args meth c cX6_readField 2 none RX6 D N0 gp) {F : (Nat → Int32)} {M : (Nat → Nat → Int32)} {s0 : Int32} {H : Heap} {locs : List Loc} {ls : Array Slot} (hR : x_R D s N0 (fixM ad F M ++ XF) h H) (hS : va_S (x_A N0) s.heap H locs) (hl : lv_has ls 2 [(0, .ref (ad 1000)), (1, .int p1)]) (hw : wX6_readField_b152 post p1 F M s0) : W p l e rmX6_readField s m args below meth c H locs 0 0 (MQ below (x_Qc D N0 (x_Vv (qMv ad XF h post))) args s 0 0 (x_A N0)) (F0 m 152 ls [.int s0, .ref (ad 1000)]) := by
  obtain ⟨⟨hx, hb, hml, hown, hts⟩, hr, hlocks, hG, hN⟩ := id C
  unfold wX6_readField_b152 at hw
  obtain ⟨z46, hw⟩ := hw
  refine x_putX (ci := 5) (Cn := RX6) (T := TX6) (N := 55) (v := .int s0) C hR hS 0 rfl rfl in_X6 tyX6_ok nmX6 37 (by decide) q1216 (fun _ h9 => h9) rfl (x_bitN z46) (x_bitF z46) (Nat.le_of_ble_eq_true rfl) (sM_f37 ..) dX6_readField_152 (fun H locs hR hS => ?_)
  refine lv_aload_n hx hb dX6_readField_155 rfl (lv_at hl 0 rfl) ?_
  refine x_get (ci := 5) (Cn := RX6) (T := TX6) (N := 55) (v := .int s0) C (hR.rdX 0 rfl) rfl in_X6 37 (by decide) q1216 (fun _ h9 => h9) rfl dX6_readField_156 ?_
  refine lv_if_eq (tgt := 175) hx hb dX6_readField_159 (by decide) (fun c47 => ?_) (fun c47 => ?_)
  · have hw := hw.1 c47
    exact kX6_readField_b175 C hR hS (lv_sub hl [] rfl) hw
  · have hw := hw.2 c47
    refine lv_aload_n hx hb dX6_readField_162 rfl (lv_at hl 0 rfl) ?_
    refine lv_iload_n hx hb dX6_readField_163 rfl (lv_at hl 1 rfl) ?_
    refine lv_bipush (v := 32) hx hb dX6_readField_164 (by decide) ?_
    refine lv_isub hx hb dX6_readField_166 ?_
    refine x_putX (ci := 5) (Cn := RX6) (T := TX6) (N := 55) (v := .int (p1 - 32)) C hR hS 0 rfl rfl in_X6 tyX6_ok nmX6 7 (by decide) q1186 (fun _ h9 => h9) rfl rfl rfl (Nat.le_of_ble_eq_true rfl) (sM_f7 ..) dX6_readField_167 (fun H locs hR hS => ?_)
    refine lv_aload_n hx hb dX6_readField_170 rfl (lv_at hl 0 rfl) ?_
    refine lv_iconst (v := 0) hx hb dX6_readField_171 (by decide) ?_
    refine x_callv0 (x_runV (n := 1) (As := [.int 0]) C hR hS (kX6_evict l D N0 gp ad XF _ 0 (upd (upd F 37 s0) 7 (p1 - 32)) M _ hw) (lw_V q1479 q1481 qs68 q104 q1482) rfl rfl (by decide +kernel) ⟨Nat.le_of_ble_eq_true rfl, Nat.le_of_ble_eq_true rfl⟩ (x_recv C (hR.rdX 0 rfl) rfl) rfl hl.1 rfl (Nat.le_of_ble_eq_true rfl) dX6_readField_172 ⟨Nat.le_refl _, Nat.le_refl _⟩) hS (fun X1 h1 H locs hq hR hS => ?_)
    obtain ⟨F48, M48, e1, e2, hw⟩ := hq
    rw [e1, e2] at hR
    exact kX6_readField_b175 C hR hS (lv_sub hl [] rfl) hw
def wX6_readField_b151 (post : (Nat → Int32) → (Nat → Nat → Int32) → Prop) (p1 : Int32) (F : (Nat → Int32)) (M : (Nat → Nat → Int32)) : Prop :=
  wX6_readField_b152 post p1 F M 0
theorem kX6_readField_b151 {post : (Nat → Int32) → (Nat → Nat → Int32) → Prop} {p1 : Int32} (C : x_C p s m args meth c cX6_readField 2 none RX6 D N0 gp) {F : (Nat → Int32)} {M : (Nat → Nat → Int32)} {H : Heap} {locs : List Loc} {ls : Array Slot} (hR : x_R D s N0 (fixM ad F M ++ XF) h H) (hS : va_S (x_A N0) s.heap H locs) (hl : lv_has ls 2 [(0, .ref (ad 1000)), (1, .int p1)]) (hw : wX6_readField_b151 post p1 F M) : W p l e rmX6_readField s m args below meth c H locs 0 0 (MQ below (x_Qc D N0 (x_Vv (qMv ad XF h post))) args s 0 0 (x_A N0)) (F0 m 151 ls [.ref (ad 1000)]) := by
  obtain ⟨⟨hx, hb, hml, hown, hts⟩, hr, hlocks, hG, hN⟩ := id C
  unfold wX6_readField_b151 at hw
  refine lv_iconst (v := 0) hx hb dX6_readField_151 (by decide) ?_
  exact kX6_readField_b152 C hR hS (lv_sub hl [0, 1] rfl) hw
end
def wX6_readField (post : (Nat → Int32) → (Nat → Nat → Int32) → Prop) (p1 : Int32) (F : (Nat → Int32)) (M : (Nat → Nat → Int32)) : Prop :=
  (p1 ≤ 127 → ((63 : Int32) < p1 → wX6_readField_b70 post p1 F M) ∧ (¬ (63 : Int32) < p1 → ((16 : Int32) ≤ p1 → (p1 ≤ 31 → wX6_readField_b151 post p1 F M) ∧ (¬ p1 ≤ 31 → ((57 : Int32) ≤ p1 → wX6_readField_b151 post p1 F M) ∧ (¬ (57 : Int32) ≤ p1 → ((F 38) = 0 → wX6_readField_b152 post p1 F M 1) ∧ (¬ (F 38) = 0 → wX6_readField_b151 post p1 F M)))) ∧ (¬ (16 : Int32) ≤ p1 → wX6_readField_b70 post p1 F M))) ∧ (¬ p1 ≤ 127 → (p1 ≤ 128 → wX6_readField_b33 post p1 F M) ∧ (¬ p1 ≤ 128 → (((7 : Int32) + (F 6)) ≤ (p1 - 129) → wX6_readField_b33 post p1 F M) ∧ (¬ ((7 : Int32) + (F 6)) ≤ (p1 - 129) → wX6_readField_b34 post p1 F M 1)))
theorem kX6_readField (l : Launch) (D : va_G) (N0 : Nat) (gp : Nat → Nat) (ad : Nat → Nat) (XF : x_X) (h : x_H) (p1 : Int32) (F : (Nat → Int32)) (M : (Nat → Nat → Int32)) (post : (Nat → Int32) → (Nat → Nat → Int32) → Prop) (hw : wX6_readField post p1 F M) : Met l yX6_readField (ws_ yX6_readField cX6_readField 2 none) rmX6_readField (x_Pc D N0 gp (fixM ad F M ++ XF) h [.ref (ad 1000), .int p1]) (x_Qc D N0 (x_Vv (qMv ad XF h post))) 0 0 (x_A N0) := by
  refine x_start (lv := [(0, .ref (ad 1000)), (1, .int p1)]) (by decide) rfl (Nat.le_of_ble_eq_true rfl) rfl ?_
  intro p e s m below meth c C hR ls hl
  have hS : va_S (x_A N0) s.heap s.heap [] := va_S.rf
  obtain ⟨⟨hx, hb, hml, hown, hts⟩, hr, hlocks, hG, hN⟩ := id C
  unfold wX6_readField at hw
  refine lv_iload_n hx hb dX6_readField_0 rfl (lv_at hl 1 rfl) ?_
  refine lv_bipush (v := 127) hx hb dX6_readField_1 (by decide) ?_
  refine lv_icmp_le (tgt := 58) hx hb dX6_readField_3 (by decide) (fun c25 => ?_) (fun c25 => ?_)
  · have hw := hw.1 c25
    refine lv_iload_n hx hb dX6_readField_58 rfl (lv_at hl 1 rfl) ?_
    refine lv_bipush (v := 63) hx hb dX6_readField_59 (by decide) ?_
    refine lv_icmp_gt (tgt := 70) hx hb dX6_readField_61 (by decide) (fun c26 => ?_) (fun c26 => ?_)
    · have hw := hw.1 c26
      exact kX6_readField_b70 C hR hS (lv_sub hl [0, 1] rfl) hw
    · have hw := hw.2 c26
      refine lv_iload_n hx hb dX6_readField_64 rfl (lv_at hl 1 rfl) ?_
      refine lv_bipush (v := 16) hx hb dX6_readField_65 (by decide) ?_
      refine lv_icmp_ge (tgt := 127) hx hb dX6_readField_67 (by decide) (fun c27 => ?_) (fun c27 => ?_)
      · have hw := hw.1 c27
        refine lv_aload_n hx hb dX6_readField_127 rfl (lv_at hl 0 rfl) ?_
        refine lv_iload_n hx hb dX6_readField_128 rfl (lv_at hl 1 rfl) ?_
        refine lv_bipush (v := 31) hx hb dX6_readField_129 (by decide) ?_
        refine lv_icmp_le (tgt := 151) hx hb dX6_readField_131 (by decide) (fun c28 => ?_) (fun c28 => ?_)
        · have hw := hw.1 c28
          exact kX6_readField_b151 C hR hS (lv_sub hl [0, 1] rfl) hw
        · have hw := hw.2 c28
          refine lv_iload_n hx hb dX6_readField_134 rfl (lv_at hl 1 rfl) ?_
          refine lv_bipush (v := 57) hx hb dX6_readField_135 (by decide) ?_
          refine lv_icmp_ge (tgt := 151) hx hb dX6_readField_137 (by decide) (fun c29 => ?_) (fun c29 => ?_)
          · have hw := hw.1 c29
            exact kX6_readField_b151 C hR hS (lv_sub hl [0, 1] rfl) hw
          · have hw := hw.2 c29
            refine lv_aload_n hx hb dX6_readField_140 rfl (lv_at hl 0 rfl) ?_
            refine x_get (ci := 5) (Cn := RX6) (T := TX6) (N := 55) (v := .int (F 38)) C (hR.rdX 0 rfl) rfl in_X6 38 (by decide) q1217 (fun _ h9 => h9) rfl dX6_readField_141 ?_
            refine lv_if_ne (tgt := 151) hx hb dX6_readField_144 (by decide) (fun c30 => ?_) (fun c30 => ?_)
            · have hw := hw.2 c30
              exact kX6_readField_b151 C hR hS (lv_sub hl [0, 1] rfl) hw
            · have hw := hw.1 c30
              refine lv_iconst (v := 1) hx hb dX6_readField_147 (by decide) ?_
              refine lv_goto (tgt := 152) hx hb dX6_readField_148 (by decide) ?_
              exact kX6_readField_b152 C hR hS (lv_sub hl [0, 1] rfl) hw
      · have hw := hw.2 c27
        exact kX6_readField_b70 C hR hS (lv_sub hl [0, 1] rfl) hw
  · have hw := hw.2 c25
    refine lv_aload_n hx hb dX6_readField_6 rfl (lv_at hl 0 rfl) ?_
    refine lv_iload_n hx hb dX6_readField_7 rfl (lv_at hl 1 rfl) ?_
    refine lv_sipush (v := 128) hx hb dX6_readField_8 (by decide) ?_
    refine lv_icmp_le (tgt := 33) hx hb dX6_readField_11 (by decide) (fun c31 => ?_) (fun c31 => ?_)
    · have hw := hw.1 c31
      exact kX6_readField_b33 C hR hS (lv_sub hl [0, 1] rfl) hw
    · have hw := hw.2 c31
      refine lv_iload_n hx hb dX6_readField_14 rfl (lv_at hl 1 rfl) ?_
      refine lv_sipush (v := 129) hx hb dX6_readField_15 (by decide) ?_
      refine lv_isub hx hb dX6_readField_18 ?_
      refine lv_bipush (v := 7) hx hb dX6_readField_19 (by decide) ?_
      refine lv_aload_n hx hb dX6_readField_21 rfl (lv_at hl 0 rfl) ?_
      refine x_get (ci := 5) (Cn := RX6) (T := TX6) (N := 55) (v := .int (F 6)) C (hR.rdX 0 rfl) rfl in_X6 6 (by decide) q1185 (fun _ h9 => h9) rfl dX6_readField_22 ?_
      refine lv_iadd hx hb dX6_readField_25 ?_
      refine lv_icmp_ge (tgt := 33) hx hb dX6_readField_26 (by decide) (fun c32 => ?_) (fun c32 => ?_)
      · have hw := hw.1 c32
        exact kX6_readField_b33 C hR hS (lv_sub hl [0, 1] rfl) hw
      · have hw := hw.2 c32
        refine lv_iconst (v := 1) hx hb dX6_readField_29 (by decide) ?_
        refine lv_goto (tgt := 34) hx hb dX6_readField_30 (by decide) ?_
        exact kX6_readField_b34 C hR hS (lv_sub hl [0, 1] rfl) hw
/-- PageServerModel.readBlock()Z -/
abbrev rmX6_readBlock : Room := { frames := 5, cells := 0, slots := 0, locals := 106 }
section
variable {p : Program} {l : Launch} {e : Env} {s : State} {m : MethodId} {args : Array Value} {below : List Frame} {meth : Method} {c : Code} {D : va_G} {N0 : Nat} {gp : Nat → Nat} {ad : Nat → Nat} {XF : x_X} {h : x_H}
def wX6_readBlock_b74 (post : Int32 → (Nat → Int32) → (Nat → Nat → Int32) → Prop)  (F : (Nat → Int32)) (M : (Nat → Nat → Int32)) : Prop :=
  narrow .boolean (.int (F 37)) = .int (F 37) ∧ post (F 37) F M
theorem kX6_readBlock_b74 {post : Int32 → (Nat → Int32) → (Nat → Nat → Int32) → Prop} (C : x_C p s m args meth c cX6_readBlock 1 (some .boolean) RX6 D N0 gp) {F : (Nat → Int32)} {M : (Nat → Nat → Int32)} {H : Heap} {locs : List Loc} {ls : Array Slot} (hR : x_R D s N0 (fixM ad F M ++ XF) h H) (hS : va_S (x_A N0) s.heap H locs) (hl : lv_has ls 1 [(0, .ref (ad 1000))]) (hw : wX6_readBlock_b74 post F M) : W p l e rmX6_readBlock s m args below meth c H locs 0 0 (MQ below (x_Qc D N0 (x_Vi (qMi ad XF h post))) args s 0 0 (x_A N0)) (F0 m 74 ls []) := by
  obtain ⟨⟨hx, hb, hml, hown, hts⟩, hr, hlocks, hG, hN⟩ := id C
  unfold wX6_readBlock_b74 at hw
  refine lv_aload_n hx hb dX6_readBlock_74 rfl (lv_at hl 0 rfl) ?_
  refine x_get (ci := 5) (Cn := RX6) (T := TX6) (N := 55) (v := .int (F 37)) C (hR.rdX 0 rfl) rfl in_X6 37 (by decide) q1216 (fun _ h9 => h9) rfl dX6_readBlock_75 ?_
  obtain ⟨hz, hw⟩ := hw
  exact x_endz C hR hS hz ⟨_, rfl, ⟨_, _, rfl, rfl, hw⟩⟩ (Nat.le_refl _) (Nat.le_refl _) dX6_readBlock_78
def tX6_readBlock_b45 (post : Int32 → (Nat → Int32) → (Nat → Nat → Int32) → Prop) (K45 : (Nat → Int32) → (Nat → Nat → Int32) → Prop)  (F : (Nat → Int32)) (M : (Nat → Nat → Int32)) : Prop :=
  ((F 37) = 0 → wX6_readBlock_b74 post F M) ∧ (¬ (F 37) = 0 → ((F 34) ≤ (F 36) → wX6_readBlock_b74 post F M) ∧ (¬ (F 34) ≤ (F 36) → wX6_next (fun r10 F11 M11 => wX6_readField (fun F12 M12 => K45 F12 M12) r10 F11 M11) F M))
def wX6_readBlock_b45 (post : Int32 → (Nat → Int32) → (Nat → Nat → Int32) → Prop)  : Nat → (Nat → Int32) → (Nat → Nat → Int32) → Prop
  | 0 => fun _ _ => False
  | n + 1 => fun F M => tX6_readBlock_b45 post (wX6_readBlock_b45 post n)  F M
theorem kX6_readBlock_b45 {post : Int32 → (Nat → Int32) → (Nat → Nat → Int32) → Prop} (C : x_C p s m args meth c cX6_readBlock 1 (some .boolean) RX6 D N0 gp) : ∀ (nn : Nat) (F : (Nat → Int32)) (M : (Nat → Nat → Int32)) (H : Heap) (locs : List Loc) (ls : Array Slot), x_R D s N0 (fixM ad F M ++ XF) h H → va_S (x_A N0) s.heap H locs → lv_has ls 1 [(0, .ref (ad 1000))] → wX6_readBlock_b45 post nn F M → W p l e rmX6_readBlock s m args below meth c H locs 0 0 (MQ below (x_Qc D N0 (x_Vi (qMi ad XF h post))) args s 0 0 (x_A N0)) (F0 m 45 ls []) := by
  obtain ⟨⟨hx, hb, hml, hown, hts⟩, hr, hlocks, hG, hN⟩ := id C
  intro nn
  induction nn with
  | zero =>
    intro F M H locs ls hR hS hl hw
    exact False.elim hw
  | succ nn ih =>
    intro F M H locs ls hR hS hl hw
    have hK45 := ih
    have hw : tX6_readBlock_b45 post (wX6_readBlock_b45 post nn)  F M := hw
    unfold tX6_readBlock_b45 at hw
    refine lv_aload_n hx hb dX6_readBlock_45 rfl (lv_at hl 0 rfl) ?_
    refine x_get (ci := 5) (Cn := RX6) (T := TX6) (N := 55) (v := .int (F 37)) C (hR.rdX 0 rfl) rfl in_X6 37 (by decide) q1216 (fun _ h9 => h9) rfl dX6_readBlock_46 ?_
    refine lv_if_eq (tgt := 74) hx hb dX6_readBlock_49 (by decide) (fun c8 => ?_) (fun c8 => ?_)
    · have hw := hw.1 c8
      exact kX6_readBlock_b74 C hR hS (lv_sub hl [0] rfl) hw
    · have hw := hw.2 c8
      refine lv_aload_n hx hb dX6_readBlock_52 rfl (lv_at hl 0 rfl) ?_
      refine x_get (ci := 5) (Cn := RX6) (T := TX6) (N := 55) (v := .int (F 36)) C (hR.rdX 0 rfl) rfl in_X6 36 (by decide) q1215 (fun _ h9 => h9) rfl dX6_readBlock_53 ?_
      refine lv_aload_n hx hb dX6_readBlock_56 rfl (lv_at hl 0 rfl) ?_
      refine x_get (ci := 5) (Cn := RX6) (T := TX6) (N := 55) (v := .int (F 34)) C (hR.rdX 0 rfl) rfl in_X6 34 (by decide) q1213 (fun _ h9 => h9) rfl dX6_readBlock_57 ?_
      refine lv_icmp_ge (tgt := 74) hx hb dX6_readBlock_60 (by decide) (fun c9 => ?_) (fun c9 => ?_)
      · have hw := hw.1 c9
        exact kX6_readBlock_b74 C hR hS (lv_sub hl [0] rfl) hw
      · have hw := hw.2 c9
        refine lv_aload_n hx hb dX6_readBlock_63 rfl (lv_at hl 0 rfl) ?_
        refine lv_aload_n hx hb dX6_readBlock_64 rfl (lv_at hl 0 rfl) ?_
        refine x_calli0 (x_runV (n := 0) (As := []) C hR hS (kX6_next l D N0 gp ad XF _ F M _ hw) (lw_V q1451 q1453 qs61 q104 q1454) rfl rfl (by decide +kernel) ⟨Nat.le_of_ble_eq_true rfl, Nat.le_of_ble_eq_true rfl⟩ (x_recv C (hR.rdX 0 rfl) rfl) rfl hl.1 rfl (Nat.le_of_ble_eq_true rfl) dX6_readBlock_65 ⟨Nat.le_refl _, Nat.le_refl _⟩) hS (fun r10 X1 h1 H locs hq hR hS => ?_)
        obtain ⟨F11, M11, e1, e2, hw⟩ := hq
        rw [e1, e2] at hR
        refine x_callv0 (x_runV (n := 1) (As := [.int r10]) C hR hS (kX6_readField l D N0 gp ad XF _ r10 F11 M11 _ hw) (lw_V q1455 q1457 qs62 q104 q1458) rfl rfl (by decide +kernel) ⟨Nat.le_of_ble_eq_true rfl, Nat.le_of_ble_eq_true rfl⟩ (x_recv C (hR.rdX 0 rfl) rfl) rfl hl.1 rfl (Nat.le_of_ble_eq_true rfl) dX6_readBlock_68 ⟨Nat.le_refl _, Nat.le_refl _⟩) hS (fun X1 h1 H locs hq hR hS => ?_)
        obtain ⟨F12, M12, e1, e2, hw⟩ := hq
        rw [e1, e2] at hR
        refine lv_goto (tgt := 45) hx hb dX6_readBlock_71 (by decide) ?_
        exact hK45 _ _ _ _ _ hR hS (lv_sub hl [0] rfl) hw
end
def wX6_readBlock (post : Int32 → (Nat → Int32) → (Nat → Nat → Int32) → Prop)  (F : (Nat → Int32)) (M : (Nat → Nat → Int32)) : Prop :=
  ∃ n7 : Nat, wX6_readBlock_b45 post n7 (upd (upd (upd (upd (upd (upd (upd (upd (upd F 36 0) 37 1) 38 0) 39 0) 40 0) 41 0) 42 (-1)) 43 0) 44 (-1)) M
theorem kX6_readBlock (l : Launch) (D : va_G) (N0 : Nat) (gp : Nat → Nat) (ad : Nat → Nat) (XF : x_X) (h : x_H)  (F : (Nat → Int32)) (M : (Nat → Nat → Int32)) (post : Int32 → (Nat → Int32) → (Nat → Nat → Int32) → Prop) (hw : wX6_readBlock post  F M) : Met l yX6_readBlock (ws_ yX6_readBlock cX6_readBlock 1 (some .boolean)) rmX6_readBlock (x_Pc D N0 gp (fixM ad F M ++ XF) h [.ref (ad 1000)]) (x_Qc D N0 (x_Vi (qMi ad XF h post))) 0 0 (x_A N0) := by
  refine x_start (lv := [(0, .ref (ad 1000))]) (by decide) rfl (Nat.le_of_ble_eq_true rfl) rfl ?_
  intro p e s m below meth c C hR ls hl
  have hS : va_S (x_A N0) s.heap s.heap [] := va_S.rf
  obtain ⟨⟨hx, hb, hml, hown, hts⟩, hr, hlocks, hG, hN⟩ := id C
  unfold wX6_readBlock at hw
  refine lv_aload_n hx hb dX6_readBlock_0 rfl (lv_at hl 0 rfl) ?_
  refine lv_iconst (v := 0) hx hb dX6_readBlock_1 (by decide) ?_
  refine x_putX (ci := 5) (Cn := RX6) (T := TX6) (N := 55) (v := .int 0) C hR hS 0 rfl rfl in_X6 tyX6_ok nmX6 36 (by decide) q1215 (fun _ h9 => h9) rfl rfl rfl (Nat.le_of_ble_eq_true rfl) (sM_f36 ..) dX6_readBlock_2 (fun H locs hR hS => ?_)
  refine lv_aload_n hx hb dX6_readBlock_5 rfl (lv_at hl 0 rfl) ?_
  refine lv_iconst (v := 1) hx hb dX6_readBlock_6 (by decide) ?_
  refine x_putX (ci := 5) (Cn := RX6) (T := TX6) (N := 55) (v := .int 1) C hR hS 0 rfl rfl in_X6 tyX6_ok nmX6 37 (by decide) q1216 (fun _ h9 => h9) rfl rfl rfl (Nat.le_of_ble_eq_true rfl) (sM_f37 ..) dX6_readBlock_7 (fun H locs hR hS => ?_)
  refine lv_aload_n hx hb dX6_readBlock_10 rfl (lv_at hl 0 rfl) ?_
  refine lv_iconst (v := 0) hx hb dX6_readBlock_11 (by decide) ?_
  refine x_putX (ci := 5) (Cn := RX6) (T := TX6) (N := 55) (v := .int 0) C hR hS 0 rfl rfl in_X6 tyX6_ok nmX6 38 (by decide) q1217 (fun _ h9 => h9) rfl rfl rfl (Nat.le_of_ble_eq_true rfl) (sM_f38 ..) dX6_readBlock_12 (fun H locs hR hS => ?_)
  refine lv_aload_n hx hb dX6_readBlock_15 rfl (lv_at hl 0 rfl) ?_
  refine lv_iconst (v := 0) hx hb dX6_readBlock_16 (by decide) ?_
  refine x_putX (ci := 5) (Cn := RX6) (T := TX6) (N := 55) (v := .int 0) C hR hS 0 rfl rfl in_X6 tyX6_ok nmX6 39 (by decide) q1218 (fun _ h9 => h9) rfl rfl rfl (Nat.le_of_ble_eq_true rfl) (sM_f39 ..) dX6_readBlock_17 (fun H locs hR hS => ?_)
  refine lv_aload_n hx hb dX6_readBlock_20 rfl (lv_at hl 0 rfl) ?_
  refine lv_iconst (v := 0) hx hb dX6_readBlock_21 (by decide) ?_
  refine x_putX (ci := 5) (Cn := RX6) (T := TX6) (N := 55) (v := .int 0) C hR hS 0 rfl rfl in_X6 tyX6_ok nmX6 40 (by decide) q1219 (fun _ h9 => h9) rfl rfl rfl (Nat.le_of_ble_eq_true rfl) (sM_f40 ..) dX6_readBlock_22 (fun H locs hR hS => ?_)
  refine lv_aload_n hx hb dX6_readBlock_25 rfl (lv_at hl 0 rfl) ?_
  refine lv_iconst (v := 0) hx hb dX6_readBlock_26 (by decide) ?_
  refine x_putX (ci := 5) (Cn := RX6) (T := TX6) (N := 55) (v := .int 0) C hR hS 0 rfl rfl in_X6 tyX6_ok nmX6 41 (by decide) q1220 (fun _ h9 => h9) rfl rfl rfl (Nat.le_of_ble_eq_true rfl) (sM_f41 ..) dX6_readBlock_27 (fun H locs hR hS => ?_)
  refine lv_aload_n hx hb dX6_readBlock_30 rfl (lv_at hl 0 rfl) ?_
  refine lv_iconst (v := -1) hx hb dX6_readBlock_31 (by decide) ?_
  refine x_putX (ci := 5) (Cn := RX6) (T := TX6) (N := 55) (v := .int (-1)) C hR hS 0 rfl rfl in_X6 tyX6_ok nmX6 42 (by decide) q1221 (fun _ h9 => h9) rfl rfl rfl (Nat.le_of_ble_eq_true rfl) (sM_f42 ..) dX6_readBlock_32 (fun H locs hR hS => ?_)
  refine lv_aload_n hx hb dX6_readBlock_35 rfl (lv_at hl 0 rfl) ?_
  refine lv_iconst (v := 0) hx hb dX6_readBlock_36 (by decide) ?_
  refine x_putX (ci := 5) (Cn := RX6) (T := TX6) (N := 55) (v := .int 0) C hR hS 0 rfl rfl in_X6 tyX6_ok nmX6 43 (by decide) q1222 (fun _ h9 => h9) rfl rfl rfl (Nat.le_of_ble_eq_true rfl) (sM_f43 ..) dX6_readBlock_37 (fun H locs hR hS => ?_)
  refine lv_aload_n hx hb dX6_readBlock_40 rfl (lv_at hl 0 rfl) ?_
  refine lv_iconst (v := -1) hx hb dX6_readBlock_41 (by decide) ?_
  refine x_putX (ci := 5) (Cn := RX6) (T := TX6) (N := 55) (v := .int (-1)) C hR hS 0 rfl rfl in_X6 tyX6_ok nmX6 44 (by decide) q1223 (fun _ h9 => h9) rfl rfl rfl (Nat.le_of_ble_eq_true rfl) (sM_f44 ..) dX6_readBlock_42 (fun H locs hR hS => ?_)
  obtain ⟨n7, hw⟩ := hw
  exact kX6_readBlock_b45 C n7 _ _ _ _ _ hR hS (lv_sub hl [0] rfl) hw
/-- PageServerModel.open()I -/
abbrev rmX6_open : Room := { frames := 0, cells := 0, slots := 0, locals := 0 }
section
variable {p : Program} {l : Launch} {e : Env} {s : State} {m : MethodId} {args : Array Value} {below : List Frame} {meth : Method} {c : Code} {D : va_G} {N0 : Nat} {gp : Nat → Nat} {ad : Nat → Nat} {XF : x_X} {h : x_H}
def wX6_open_b25 (post : Int32 → Prop) (K4 : Int32 → Int32 → Prop) (F : (Nat → Int32)) (M : (Nat → Nat → Int32)) (x2 : Int32) (s0 : Int32) : Prop :=
  K4 s0 (x2 + 1)
theorem kX6_open_b25 {post : Int32 → Prop} {K4 : Int32 → Int32 → Prop} {F : (Nat → Int32)} {M : (Nat → Nat → Int32)} (C : x_C p s m args meth c cX6_open 3 (some .int) RX6 D N0 gp) (hK4 : ∀ (x1 : Int32) (x2 : Int32) (H : Heap) (locs : List Loc) (ls : Array Slot), x_R D s N0 (fixM ad F M ++ XF) h H → va_S (x_A N0) s.heap H locs → lv_has ls 3 [(0, .ref (ad 1000)), (1, .int x1), (2, .int x2)] → K4 x1 x2 → W p l e rmX6_open s m args below meth c H locs 0 0 (MQ below (x_Qc D N0 (x_Vi (qPi (fixM ad F M ++ XF) h post))) args s 0 0 (x_A N0)) (F0 m 4 ls [])) {x2 : Int32} {s0 : Int32} {H : Heap} {locs : List Loc} {ls : Array Slot} (hR : x_R D s N0 (fixM ad F M ++ XF) h H) (hS : va_S (x_A N0) s.heap H locs) (hl : lv_has ls 3 [(0, .ref (ad 1000)), (2, .int x2)]) (hw : wX6_open_b25 post K4 F M x2 s0) : W p l e rmX6_open s m args below meth c H locs 0 0 (MQ below (x_Qc D N0 (x_Vi (qPi (fixM ad F M ++ XF) h post))) args s 0 0 (x_A N0)) (F0 m 25 ls [.int s0]) := by
  obtain ⟨⟨hx, hb, hml, hown, hts⟩, hr, hlocks, hG, hN⟩ := id C
  unfold wX6_open_b25 at hw
  refine lv_istore_n (lv' := [(1, .int s0), (0, .ref (ad 1000)), (2, .int x2)]) hx hb dX6_open_25 rfl hl (by decide) rfl (fun ls hl => ?_)
  refine lv_iinc (v := x2 + 1) (lv' := [(2, .int (x2 + 1)), (1, .int s0), (0, .ref (ad 1000))]) hx hb dX6_open_26 hl (k := 2) rfl (x_inc 1 1 (by decide)) (by decide) rfl (fun ls hl => ?_)
  refine lv_goto (tgt := 4) hx hb dX6_open_29 (by decide) ?_
  exact hK4 _ _ _ _ _ hR hS (lv_sub hl [2, 1, 0] rfl) hw
def wX6_open_b32 (post : Int32 → Prop) (F : (Nat → Int32)) (M : (Nat → Nat → Int32)) (x1 : Int32) : Prop :=
  post x1 
theorem kX6_open_b32 {post : Int32 → Prop} {F : (Nat → Int32)} {M : (Nat → Nat → Int32)} (C : x_C p s m args meth c cX6_open 3 (some .int) RX6 D N0 gp) {x1 : Int32} {H : Heap} {locs : List Loc} {ls : Array Slot} (hR : x_R D s N0 (fixM ad F M ++ XF) h H) (hS : va_S (x_A N0) s.heap H locs) (hl : lv_has ls 3 [(1, .int x1)]) (hw : wX6_open_b32 post F M x1) : W p l e rmX6_open s m args below meth c H locs 0 0 (MQ below (x_Qc D N0 (x_Vi (qPi (fixM ad F M ++ XF) h post))) args s 0 0 (x_A N0)) (F0 m 32 ls []) := by
  obtain ⟨⟨hx, hb, hml, hown, hts⟩, hr, hlocks, hG, hN⟩ := id C
  unfold wX6_open_b32 at hw
  refine lv_iload_n hx hb dX6_open_32 rfl (lv_at hl 0 rfl) ?_
  exact x_endi C hR hS ⟨_, rfl, ⟨rfl, rfl, hw⟩⟩ (Nat.le_refl _) (Nat.le_refl _) dX6_open_33
def tX6_open_b4 (post : Int32 → Prop) (K4 : Int32 → Int32 → Prop) (F : (Nat → Int32)) (M : (Nat → Nat → Int32)) (x1 : Int32) (x2 : Int32) : Prop :=
  ((4 : Int32) ≤ x2 → wX6_open_b32 post F M x1) ∧ (¬ (4 : Int32) ≤ x2 → vp_in x2 4 ∧ (((M 12) x2.toNatClampNeg) ≤ 0 → wX6_open_b25 post K4 F M x2 x1) ∧ (¬ ((M 12) x2.toNatClampNeg) ≤ 0 → wX6_open_b25 post K4 F M x2 (x1 + 1)))
def wX6_open_b4 (post : Int32 → Prop) (F : (Nat → Int32)) (M : (Nat → Nat → Int32)) : Nat → Int32 → Int32 → Prop
  | 0 => fun _ _ => False
  | n + 1 => fun x1 x2 => tX6_open_b4 post (wX6_open_b4 post F M n) F M x1 x2
theorem kX6_open_b4 {post : Int32 → Prop} {F : (Nat → Int32)} {M : (Nat → Nat → Int32)} (C : x_C p s m args meth c cX6_open 3 (some .int) RX6 D N0 gp) : ∀ (nn : Nat) (x1 : Int32) (x2 : Int32) (H : Heap) (locs : List Loc) (ls : Array Slot), x_R D s N0 (fixM ad F M ++ XF) h H → va_S (x_A N0) s.heap H locs → lv_has ls 3 [(0, .ref (ad 1000)), (1, .int x1), (2, .int x2)] → wX6_open_b4 post F M nn x1 x2 → W p l e rmX6_open s m args below meth c H locs 0 0 (MQ below (x_Qc D N0 (x_Vi (qPi (fixM ad F M ++ XF) h post))) args s 0 0 (x_A N0)) (F0 m 4 ls []) := by
  obtain ⟨⟨hx, hb, hml, hown, hts⟩, hr, hlocks, hG, hN⟩ := id C
  intro nn
  induction nn with
  | zero =>
    intro x1 x2 H locs ls hR hS hl hw
    exact False.elim hw
  | succ nn ih =>
    intro x1 x2 H locs ls hR hS hl hw
    have hK4 := ih
    have hw : tX6_open_b4 post (wX6_open_b4 post F M nn) F M x1 x2 := hw
    unfold tX6_open_b4 at hw
    refine lv_iload_n hx hb dX6_open_4 rfl (lv_at hl 2 rfl) ?_
    refine lv_iconst (v := 4) hx hb dX6_open_5 (by decide) ?_
    refine lv_icmp_ge (tgt := 32) hx hb dX6_open_6 (by decide) (fun c6 => ?_) (fun c6 => ?_)
    · have hw := hw.1 c6
      exact kX6_open_b32 C hR hS (lv_sub hl [1] rfl) hw
    · have hw := hw.2 c6
      refine lv_aload_n hx hb dX6_open_9 rfl (lv_at hl 0 rfl) ?_
      refine x_get (ci := 5) (Cn := RX6) (T := TX6) (N := 55) (v := .ref (ad 12)) C (hR.rdX 0 rfl) rfl in_X6 12 (by decide) q1191 (fun _ h9 => h9) rfl dX6_open_10 ?_
      refine lv_iload_n hx hb dX6_open_13 rfl (lv_at hl 2 rfl) ?_
      obtain ⟨b7, hw⟩ := hw
      refine x_iald (n := 4) (f := (M 12)) C (hR.rdX 9 rfl) b7 dX6_open_14 ?_
      refine lv_if_le (tgt := 24) hx hb dX6_open_15 (by decide) (fun c8 => ?_) (fun c8 => ?_)
      · have hw := hw.1 c8
        refine lv_iload_n hx hb dX6_open_24 rfl (lv_at hl 1 rfl) ?_
        exact kX6_open_b25 C hK4 hR hS (lv_sub hl [0, 2] rfl) hw
      · have hw := hw.2 c8
        refine lv_iload_n hx hb dX6_open_18 rfl (lv_at hl 1 rfl) ?_
        refine lv_iconst (v := 1) hx hb dX6_open_19 (by decide) ?_
        refine lv_iadd hx hb dX6_open_20 ?_
        refine lv_goto (tgt := 25) hx hb dX6_open_21 (by decide) ?_
        exact kX6_open_b25 C hK4 hR hS (lv_sub hl [0, 2] rfl) hw
end
def wX6_open (post : Int32 → Prop) (F : (Nat → Int32)) (M : (Nat → Nat → Int32)) : Prop :=
  ∃ n5 : Nat, wX6_open_b4 post F M n5 0 0
theorem kX6_open (l : Launch) (D : va_G) (N0 : Nat) (gp : Nat → Nat) (ad : Nat → Nat) (XF : x_X) (h : x_H) (F : (Nat → Int32)) (M : (Nat → Nat → Int32)) (post : Int32 → Prop) (hw : wX6_open post F M ) : Met l yX6_open (ws_ yX6_open cX6_open 3 (some .int)) rmX6_open (x_Pc D N0 gp (fixM ad F M ++ XF) h [.ref (ad 1000)]) (x_Qc D N0 (x_Vi (qPi (fixM ad F M ++ XF) h post))) 0 0 (x_A N0) := by
  refine x_start (lv := [(0, .ref (ad 1000))]) (by decide) rfl (Nat.le_of_ble_eq_true rfl) rfl ?_
  intro p e s m below meth c C hR ls hl
  have hS : va_S (x_A N0) s.heap s.heap [] := va_S.rf
  obtain ⟨⟨hx, hb, hml, hown, hts⟩, hr, hlocks, hG, hN⟩ := id C
  unfold wX6_open at hw
  refine lv_iconst (v := 0) hx hb dX6_open_0 (by decide) ?_
  refine lv_istore_n (lv' := [(1, .int 0), (0, .ref (ad 1000))]) hx hb dX6_open_1 rfl hl (by decide) rfl (fun ls hl => ?_)
  refine lv_iconst (v := 0) hx hb dX6_open_2 (by decide) ?_
  refine lv_istore_n (lv' := [(2, .int 0), (1, .int 0), (0, .ref (ad 1000))]) hx hb dX6_open_3 rfl hl (by decide) rfl (fun ls hl => ?_)
  obtain ⟨n5, hw⟩ := hw
  exact kX6_open_b4 C n5 _ _ _ _ _ hR hS (lv_sub hl [2, 1, 0] rfl) hw
/-- PageServerModel.request()I -/
abbrev rmX6_request : Room := { frames := 4, cells := 0, slots := 0, locals := 89 }
section
variable {p : Program} {l : Launch} {e : Env} {s : State} {m : MethodId} {args : Array Value} {below : List Frame} {meth : Method} {c : Code} {D : va_G} {N0 : Nat} {gp : Nat → Nat} {ad : Nat → Nat} {XF : x_X} {h : x_H}
def wX6_request_b41 (post : Int32 → (Nat → Int32) → (Nat → Nat → Int32) → Prop)  (F : (Nat → Int32)) (M : (Nat → Nat → Int32)) : Prop :=
  post 101 F M
theorem kX6_request_b41 {post : Int32 → (Nat → Int32) → (Nat → Nat → Int32) → Prop} (C : x_C p s m args meth c cX6_request 3 (some .int) RX6 D N0 gp) {F : (Nat → Int32)} {M : (Nat → Nat → Int32)} {H : Heap} {locs : List Loc} {ls : Array Slot} (hR : x_R D s N0 (fixM ad F M ++ XF) h H) (hS : va_S (x_A N0) s.heap H locs) (hl : lv_has ls 3 []) (hw : wX6_request_b41 post F M) : W p l e rmX6_request s m args below meth c H locs 0 0 (MQ below (x_Qc D N0 (x_Vi (qMi ad XF h post))) args s 0 0 (x_A N0)) (F0 m 41 ls []) := by
  obtain ⟨⟨hx, hb, hml, hown, hts⟩, hr, hlocks, hG, hN⟩ := id C
  unfold wX6_request_b41 at hw
  refine lv_bipush (v := 101) hx hb dX6_request_41 (by decide) ?_
  exact x_endi C hR hS ⟨_, rfl, ⟨_, _, rfl, rfl, hw⟩⟩ (Nat.le_refl _) (Nat.le_refl _) dX6_request_43
def wX6_request_b179 (post : Int32 → (Nat → Int32) → (Nat → Nat → Int32) → Prop)  (F : (Nat → Int32)) (M : (Nat → Nat → Int32)) (s0 : Int32) : Prop :=
  post s0 F M
theorem kX6_request_b179 {post : Int32 → (Nat → Int32) → (Nat → Nat → Int32) → Prop} (C : x_C p s m args meth c cX6_request 3 (some .int) RX6 D N0 gp) {F : (Nat → Int32)} {M : (Nat → Nat → Int32)} {s0 : Int32} {H : Heap} {locs : List Loc} {ls : Array Slot} (hR : x_R D s N0 (fixM ad F M ++ XF) h H) (hS : va_S (x_A N0) s.heap H locs) (hl : lv_has ls 3 []) (hw : wX6_request_b179 post F M s0) : W p l e rmX6_request s m args below meth c H locs 0 0 (MQ below (x_Qc D N0 (x_Vi (qMi ad XF h post))) args s 0 0 (x_A N0)) (F0 m 179 ls [.int s0]) := by
  obtain ⟨⟨hx, hb, hml, hown, hts⟩, hr, hlocks, hG, hN⟩ := id C
  unfold wX6_request_b179 at hw
  exact x_endi C hR hS ⟨_, rfl, ⟨_, _, rfl, rfl, hw⟩⟩ (Nat.le_refl _) (Nat.le_refl _) dX6_request_179
def wX6_request_b163 (post : Int32 → (Nat → Int32) → (Nat → Nat → Int32) → Prop)  (F : (Nat → Int32)) (M : (Nat → Nat → Int32)) (x1 : Int32) : Prop :=
  ((F 33) = 0 → wX6_request_b179 post F M 0) ∧ (¬ (F 33) = 0 → wX6_close (fun r45 F46 M46 => wX6_request_b179 post F46 M46 r45) x1 F M)
theorem kX6_request_b163 {post : Int32 → (Nat → Int32) → (Nat → Nat → Int32) → Prop} (C : x_C p s m args meth c cX6_request 3 (some .int) RX6 D N0 gp) {F : (Nat → Int32)} {M : (Nat → Nat → Int32)} {x1 : Int32} {H : Heap} {locs : List Loc} {ls : Array Slot} (hR : x_R D s N0 (fixM ad F M ++ XF) h H) (hS : va_S (x_A N0) s.heap H locs) (hl : lv_has ls 3 [(0, .ref (ad 1000)), (1, .int x1)]) (hw : wX6_request_b163 post F M x1) : W p l e rmX6_request s m args below meth c H locs 0 0 (MQ below (x_Qc D N0 (x_Vi (qMi ad XF h post))) args s 0 0 (x_A N0)) (F0 m 163 ls []) := by
  obtain ⟨⟨hx, hb, hml, hown, hts⟩, hr, hlocks, hG, hN⟩ := id C
  unfold wX6_request_b163 at hw
  refine lv_aload_n hx hb dX6_request_163 rfl (lv_at hl 0 rfl) ?_
  refine x_get (ci := 5) (Cn := RX6) (T := TX6) (N := 55) (v := .int (F 33)) C (hR.rdX 0 rfl) rfl in_X6 33 (by decide) q1212 (fun _ h9 => h9) rfl dX6_request_164 ?_
  refine lv_if_eq (tgt := 178) hx hb dX6_request_167 (by decide) (fun c44 => ?_) (fun c44 => ?_)
  · have hw := hw.1 c44
    refine lv_iconst (v := 0) hx hb dX6_request_178 (by decide) ?_
    exact kX6_request_b179 C hR hS (lv_sub hl [] rfl) hw
  · have hw := hw.2 c44
    refine lv_aload_n hx hb dX6_request_170 rfl (lv_at hl 0 rfl) ?_
    refine lv_iload_n hx hb dX6_request_171 rfl (lv_at hl 1 rfl) ?_
    refine x_calli0 (x_runV (n := 1) (As := [.int x1]) C hR hS (kX6_close l D N0 gp ad XF _ x1 F M _ hw) (lw_V q1431 q1433 qs56 q104 q1434) rfl rfl (by decide +kernel) ⟨Nat.le_of_ble_eq_true rfl, Nat.le_of_ble_eq_true rfl⟩ (x_recv C (hR.rdX 0 rfl) rfl) rfl hl.1 rfl (Nat.le_of_ble_eq_true rfl) dX6_request_172 ⟨Nat.le_refl _, Nat.le_refl _⟩) hS (fun r45 X1 h1 H locs hq hR hS => ?_)
    obtain ⟨F46, M46, e1, e2, hw⟩ := hq
    rw [e1, e2] at hR
    refine lv_goto (tgt := 179) hx hb dX6_request_175 (by decide) ?_
    exact kX6_request_b179 C hR hS (lv_sub hl [] rfl) hw
def tX6_request_b134 (post : Int32 → (Nat → Int32) → (Nat → Nat → Int32) → Prop) (K134 : (Nat → Int32) → (Nat → Nat → Int32) → Int32 → Int32 → Prop)  (F : (Nat → Int32)) (M : (Nat → Nat → Int32)) (x1 : Int32) (x2 : Int32) : Prop :=
  ((20 : Int32) ≤ x2 → wX6_request_b163 post F M x1) ∧ (¬ (20 : Int32) ≤ x2 → vp_in x2 20 ∧ vp_in (((20 : Int32) * x1) + x2) 80 ∧ K134 F (va_up M 21 (upd (M 21) (((20 : Int32) * x1) + x2).toNatClampNeg (vp_nar .char ((M 46) x2.toNatClampNeg)))) x1 (x2 + 1))
def wX6_request_b134 (post : Int32 → (Nat → Int32) → (Nat → Nat → Int32) → Prop)  : Nat → (Nat → Int32) → (Nat → Nat → Int32) → Int32 → Int32 → Prop
  | 0 => fun _ _ _ _ => False
  | n + 1 => fun F M x1 x2 => tX6_request_b134 post (wX6_request_b134 post n)  F M x1 x2
theorem kX6_request_b134 {post : Int32 → (Nat → Int32) → (Nat → Nat → Int32) → Prop} (C : x_C p s m args meth c cX6_request 3 (some .int) RX6 D N0 gp) : ∀ (nn : Nat) (F : (Nat → Int32)) (M : (Nat → Nat → Int32)) (x1 : Int32) (x2 : Int32) (H : Heap) (locs : List Loc) (ls : Array Slot), x_R D s N0 (fixM ad F M ++ XF) h H → va_S (x_A N0) s.heap H locs → lv_has ls 3 [(0, .ref (ad 1000)), (1, .int x1), (2, .int x2)] → wX6_request_b134 post nn F M x1 x2 → W p l e rmX6_request s m args below meth c H locs 0 0 (MQ below (x_Qc D N0 (x_Vi (qMi ad XF h post))) args s 0 0 (x_A N0)) (F0 m 134 ls []) := by
  obtain ⟨⟨hx, hb, hml, hown, hts⟩, hr, hlocks, hG, hN⟩ := id C
  intro nn
  induction nn with
  | zero =>
    intro F M x1 x2 H locs ls hR hS hl hw
    exact False.elim hw
  | succ nn ih =>
    intro F M x1 x2 H locs ls hR hS hl hw
    have hK134 := ih
    have hw : tX6_request_b134 post (wX6_request_b134 post nn)  F M x1 x2 := hw
    unfold tX6_request_b134 at hw
    refine lv_iload_n hx hb dX6_request_134 rfl (lv_at hl 2 rfl) ?_
    refine lv_bipush (v := 20) hx hb dX6_request_135 (by decide) ?_
    refine lv_icmp_ge (tgt := 163) hx hb dX6_request_137 (by decide) (fun c41 => ?_) (fun c41 => ?_)
    · have hw := hw.1 c41
      exact kX6_request_b163 C hR hS (lv_sub hl [0, 1] rfl) hw
    · have hw := hw.2 c41
      refine lv_aload_n hx hb dX6_request_140 rfl (lv_at hl 0 rfl) ?_
      refine x_get (ci := 5) (Cn := RX6) (T := TX6) (N := 55) (v := .ref (ad 21)) C (hR.rdX 0 rfl) rfl in_X6 21 (by decide) q1200 (fun _ h9 => h9) rfl dX6_request_141 ?_
      refine lv_bipush (v := 20) hx hb dX6_request_144 (by decide) ?_
      refine lv_iload_n hx hb dX6_request_146 rfl (lv_at hl 1 rfl) ?_
      refine lv_imul hx hb dX6_request_147 ?_
      refine lv_iload_n hx hb dX6_request_148 rfl (lv_at hl 2 rfl) ?_
      refine lv_iadd hx hb dX6_request_149 ?_
      refine lv_aload_n hx hb dX6_request_150 rfl (lv_at hl 0 rfl) ?_
      refine x_get (ci := 5) (Cn := RX6) (T := TX6) (N := 55) (v := .ref (ad 46)) C (hR.rdX 0 rfl) rfl in_X6 46 (by decide) q1225 (fun _ h9 => h9) rfl dX6_request_151 ?_
      refine lv_iload_n hx hb dX6_request_154 rfl (lv_at hl 2 rfl) ?_
      obtain ⟨b42, hw⟩ := hw
      refine x_cald (n := 20) (f := (M 46)) C (hR.rdX 21 rfl) b42 dX6_request_155 ?_
      obtain ⟨b43, hw⟩ := hw
      refine x_castX (n := 80) (f := (M 21)) C hR hS 18 rfl b43 (sM_a21 ..) dX6_request_156 (fun H locs hR hS => ?_)
      refine lv_iinc (v := x2 + 1) (lv' := [(2, .int (x2 + 1)), (0, .ref (ad 1000)), (1, .int x1)]) hx hb dX6_request_157 hl (k := 2) rfl (x_inc 1 1 (by decide)) (by decide) rfl (fun ls hl => ?_)
      refine lv_goto (tgt := 134) hx hb dX6_request_160 (by decide) ?_
      exact hK134 _ _ _ _ _ _ _ hR hS (lv_sub hl [1, 2, 0] rfl) hw
def wX6_request_b61 (post : Int32 → (Nat → Int32) → (Nat → Nat → Int32) → Prop)  (F : (Nat → Int32)) (M : (Nat → Nat → Int32)) (x1 : Int32) : Prop :=
  vp_in x1 4 ∧ vp_in x1 4 ∧ vp_in x1 4 ∧ vp_in x1 4 ∧ vp_in x1 4 ∧ vp_in x1 4 ∧ vp_in x1 4 ∧ vp_in x1 4 ∧ ∃ n40 : Nat, wX6_request_b134 post n40 F (va_up (va_up (va_up (va_up (va_up (va_up (va_up (va_up M 12 (upd (M 12) x1.toNatClampNeg (F 27))) 13 (upd (M 13) x1.toNatClampNeg (F 51))) 14 (upd (M 14) x1.toNatClampNeg 0)) 15 (upd (M 15) x1.toNatClampNeg (F 44))) 16 (upd (M 16) x1.toNatClampNeg 0)) 18 (upd (M 18) x1.toNatClampNeg 0)) 19 (upd (M 19) x1.toNatClampNeg (F 42))) 20 (upd (M 20) x1.toNatClampNeg (F 45))) x1 0
theorem kX6_request_b61 {post : Int32 → (Nat → Int32) → (Nat → Nat → Int32) → Prop} (C : x_C p s m args meth c cX6_request 3 (some .int) RX6 D N0 gp) {F : (Nat → Int32)} {M : (Nat → Nat → Int32)} {x1 : Int32} {H : Heap} {locs : List Loc} {ls : Array Slot} (hR : x_R D s N0 (fixM ad F M ++ XF) h H) (hS : va_S (x_A N0) s.heap H locs) (hl : lv_has ls 3 [(0, .ref (ad 1000)), (1, .int x1)]) (hw : wX6_request_b61 post F M x1) : W p l e rmX6_request s m args below meth c H locs 0 0 (MQ below (x_Qc D N0 (x_Vi (qMi ad XF h post))) args s 0 0 (x_A N0)) (F0 m 61 ls []) := by
  obtain ⟨⟨hx, hb, hml, hown, hts⟩, hr, hlocks, hG, hN⟩ := id C
  unfold wX6_request_b61 at hw
  refine lv_aload_n hx hb dX6_request_61 rfl (lv_at hl 0 rfl) ?_
  refine x_get (ci := 5) (Cn := RX6) (T := TX6) (N := 55) (v := .ref (ad 12)) C (hR.rdX 0 rfl) rfl in_X6 12 (by decide) q1191 (fun _ h9 => h9) rfl dX6_request_62 ?_
  refine lv_iload_n hx hb dX6_request_65 rfl (lv_at hl 1 rfl) ?_
  refine lv_aload_n hx hb dX6_request_66 rfl (lv_at hl 0 rfl) ?_
  refine x_get (ci := 5) (Cn := RX6) (T := TX6) (N := 55) (v := .int (F 27)) C (hR.rdX 0 rfl) rfl in_X6 27 (by decide) q1206 (fun _ h9 => h9) rfl dX6_request_67 ?_
  obtain ⟨b32, hw⟩ := hw
  refine x_iastX (n := 4) (f := (M 12)) C hR hS 9 rfl b32 (sM_a12 ..) dX6_request_70 (fun H locs hR hS => ?_)
  refine lv_aload_n hx hb dX6_request_71 rfl (lv_at hl 0 rfl) ?_
  refine x_get (ci := 5) (Cn := RX6) (T := TX6) (N := 55) (v := .ref (ad 13)) C (hR.rdX 0 rfl) rfl in_X6 13 (by decide) q1192 (fun _ h9 => h9) rfl dX6_request_72 ?_
  refine lv_iload_n hx hb dX6_request_75 rfl (lv_at hl 1 rfl) ?_
  refine lv_aload_n hx hb dX6_request_76 rfl (lv_at hl 0 rfl) ?_
  refine x_get (ci := 5) (Cn := RX6) (T := TX6) (N := 55) (v := .int (F 51)) C (hR.rdX 0 rfl) rfl in_X6 51 (by decide) q1230 (fun _ h9 => h9) rfl dX6_request_77 ?_
  obtain ⟨b33, hw⟩ := hw
  refine x_iastX (n := 4) (f := (M 13)) C hR hS 10 rfl b33 (sM_a13 ..) dX6_request_80 (fun H locs hR hS => ?_)
  refine lv_aload_n hx hb dX6_request_81 rfl (lv_at hl 0 rfl) ?_
  refine x_get (ci := 5) (Cn := RX6) (T := TX6) (N := 55) (v := .ref (ad 14)) C (hR.rdX 0 rfl) rfl in_X6 14 (by decide) q1193 (fun _ h9 => h9) rfl dX6_request_82 ?_
  refine lv_iload_n hx hb dX6_request_85 rfl (lv_at hl 1 rfl) ?_
  refine lv_iconst (v := 0) hx hb dX6_request_86 (by decide) ?_
  obtain ⟨b34, hw⟩ := hw
  refine x_iastX (n := 4) (f := (M 14)) C hR hS 11 rfl b34 (sM_a14 ..) dX6_request_87 (fun H locs hR hS => ?_)
  refine lv_aload_n hx hb dX6_request_88 rfl (lv_at hl 0 rfl) ?_
  refine x_get (ci := 5) (Cn := RX6) (T := TX6) (N := 55) (v := .ref (ad 15)) C (hR.rdX 0 rfl) rfl in_X6 15 (by decide) q1194 (fun _ h9 => h9) rfl dX6_request_89 ?_
  refine lv_iload_n hx hb dX6_request_92 rfl (lv_at hl 1 rfl) ?_
  refine lv_aload_n hx hb dX6_request_93 rfl (lv_at hl 0 rfl) ?_
  refine x_get (ci := 5) (Cn := RX6) (T := TX6) (N := 55) (v := .int (F 44)) C (hR.rdX 0 rfl) rfl in_X6 44 (by decide) q1223 (fun _ h9 => h9) rfl dX6_request_94 ?_
  obtain ⟨b35, hw⟩ := hw
  refine x_iastX (n := 4) (f := (M 15)) C hR hS 12 rfl b35 (sM_a15 ..) dX6_request_97 (fun H locs hR hS => ?_)
  refine lv_aload_n hx hb dX6_request_98 rfl (lv_at hl 0 rfl) ?_
  refine x_get (ci := 5) (Cn := RX6) (T := TX6) (N := 55) (v := .ref (ad 16)) C (hR.rdX 0 rfl) rfl in_X6 16 (by decide) q1195 (fun _ h9 => h9) rfl dX6_request_99 ?_
  refine lv_iload_n hx hb dX6_request_102 rfl (lv_at hl 1 rfl) ?_
  refine lv_iconst (v := 0) hx hb dX6_request_103 (by decide) ?_
  obtain ⟨b36, hw⟩ := hw
  refine x_iastX (n := 4) (f := (M 16)) C hR hS 13 rfl b36 (sM_a16 ..) dX6_request_104 (fun H locs hR hS => ?_)
  refine lv_aload_n hx hb dX6_request_105 rfl (lv_at hl 0 rfl) ?_
  refine x_get (ci := 5) (Cn := RX6) (T := TX6) (N := 55) (v := .ref (ad 18)) C (hR.rdX 0 rfl) rfl in_X6 18 (by decide) q1197 (fun _ h9 => h9) rfl dX6_request_106 ?_
  refine lv_iload_n hx hb dX6_request_109 rfl (lv_at hl 1 rfl) ?_
  refine lv_iconst (v := 0) hx hb dX6_request_110 (by decide) ?_
  obtain ⟨b37, hw⟩ := hw
  refine x_zastX (n := 4) (f := (M 18)) C hR hS 15 rfl b37 rfl (sM_a18 ..) dX6_request_111 (fun H locs hR hS => ?_)
  refine lv_aload_n hx hb dX6_request_112 rfl (lv_at hl 0 rfl) ?_
  refine x_get (ci := 5) (Cn := RX6) (T := TX6) (N := 55) (v := .ref (ad 19)) C (hR.rdX 0 rfl) rfl in_X6 19 (by decide) q1198 (fun _ h9 => h9) rfl dX6_request_113 ?_
  refine lv_iload_n hx hb dX6_request_116 rfl (lv_at hl 1 rfl) ?_
  refine lv_aload_n hx hb dX6_request_117 rfl (lv_at hl 0 rfl) ?_
  refine x_get (ci := 5) (Cn := RX6) (T := TX6) (N := 55) (v := .int (F 42)) C (hR.rdX 0 rfl) rfl in_X6 42 (by decide) q1221 (fun _ h9 => h9) rfl dX6_request_118 ?_
  obtain ⟨b38, hw⟩ := hw
  refine x_iastX (n := 4) (f := (M 19)) C hR hS 16 rfl b38 (sM_a19 ..) dX6_request_121 (fun H locs hR hS => ?_)
  refine lv_aload_n hx hb dX6_request_122 rfl (lv_at hl 0 rfl) ?_
  refine x_get (ci := 5) (Cn := RX6) (T := TX6) (N := 55) (v := .ref (ad 20)) C (hR.rdX 0 rfl) rfl in_X6 20 (by decide) q1199 (fun _ h9 => h9) rfl dX6_request_123 ?_
  refine lv_iload_n hx hb dX6_request_126 rfl (lv_at hl 1 rfl) ?_
  refine lv_aload_n hx hb dX6_request_127 rfl (lv_at hl 0 rfl) ?_
  refine x_get (ci := 5) (Cn := RX6) (T := TX6) (N := 55) (v := .int (F 45)) C (hR.rdX 0 rfl) rfl in_X6 45 (by decide) q1224 (fun _ h9 => h9) rfl dX6_request_128 ?_
  obtain ⟨b39, hw⟩ := hw
  refine x_iastX (n := 4) (f := (M 20)) C hR hS 17 rfl b39 (sM_a20 ..) dX6_request_131 (fun H locs hR hS => ?_)
  refine lv_iconst (v := 0) hx hb dX6_request_132 (by decide) ?_
  refine lv_istore_n (lv' := [(2, .int 0), (0, .ref (ad 1000)), (1, .int x1)]) hx hb dX6_request_133 rfl hl (by decide) rfl (fun ls hl => ?_)
  obtain ⟨n40, hw⟩ := hw
  exact kX6_request_b134 C n40 _ _ _ _ _ _ _ hR hS (lv_sub hl [1, 2, 0] rfl) hw
def tX6_request_b46 (post : Int32 → (Nat → Int32) → (Nat → Nat → Int32) → Prop) (K46 : (Nat → Int32) → (Nat → Nat → Int32) → Int32 → Prop)  (F : (Nat → Int32)) (M : (Nat → Nat → Int32)) (x1 : Int32) : Prop :=
  vp_in x1 4 ∧ (((M 12) x1.toNatClampNeg) ≤ 0 → wX6_request_b61 post F M x1) ∧ (¬ ((M 12) x1.toNatClampNeg) ≤ 0 → K46 F M (x1 + 1))
def wX6_request_b46 (post : Int32 → (Nat → Int32) → (Nat → Nat → Int32) → Prop)  : Nat → (Nat → Int32) → (Nat → Nat → Int32) → Int32 → Prop
  | 0 => fun _ _ _ => False
  | n + 1 => fun F M x1 => tX6_request_b46 post (wX6_request_b46 post n)  F M x1
theorem kX6_request_b46 {post : Int32 → (Nat → Int32) → (Nat → Nat → Int32) → Prop} (C : x_C p s m args meth c cX6_request 3 (some .int) RX6 D N0 gp) : ∀ (nn : Nat) (F : (Nat → Int32)) (M : (Nat → Nat → Int32)) (x1 : Int32) (H : Heap) (locs : List Loc) (ls : Array Slot), x_R D s N0 (fixM ad F M ++ XF) h H → va_S (x_A N0) s.heap H locs → lv_has ls 3 [(0, .ref (ad 1000)), (1, .int x1)] → wX6_request_b46 post nn F M x1 → W p l e rmX6_request s m args below meth c H locs 0 0 (MQ below (x_Qc D N0 (x_Vi (qMi ad XF h post))) args s 0 0 (x_A N0)) (F0 m 46 ls []) := by
  obtain ⟨⟨hx, hb, hml, hown, hts⟩, hr, hlocks, hG, hN⟩ := id C
  intro nn
  induction nn with
  | zero =>
    intro F M x1 H locs ls hR hS hl hw
    exact False.elim hw
  | succ nn ih =>
    intro F M x1 H locs ls hR hS hl hw
    have hK46 := ih
    have hw : tX6_request_b46 post (wX6_request_b46 post nn)  F M x1 := hw
    unfold tX6_request_b46 at hw
    refine lv_aload_n hx hb dX6_request_46 rfl (lv_at hl 0 rfl) ?_
    refine x_get (ci := 5) (Cn := RX6) (T := TX6) (N := 55) (v := .ref (ad 12)) C (hR.rdX 0 rfl) rfl in_X6 12 (by decide) q1191 (fun _ h9 => h9) rfl dX6_request_47 ?_
    refine lv_iload_n hx hb dX6_request_50 rfl (lv_at hl 1 rfl) ?_
    obtain ⟨b30, hw⟩ := hw
    refine x_iald (n := 4) (f := (M 12)) C (hR.rdX 9 rfl) b30 dX6_request_51 ?_
    refine lv_if_le (tgt := 61) hx hb dX6_request_52 (by decide) (fun c31 => ?_) (fun c31 => ?_)
    · have hw := hw.1 c31
      exact kX6_request_b61 C hR hS (lv_sub hl [0, 1] rfl) hw
    · have hw := hw.2 c31
      refine lv_iinc (v := x1 + 1) (lv' := [(1, .int (x1 + 1)), (0, .ref (ad 1000))]) hx hb dX6_request_55 hl (k := 1) rfl (x_inc 1 1 (by decide)) (by decide) rfl (fun ls hl => ?_)
      refine lv_goto (tgt := 46) hx hb dX6_request_58 (by decide) ?_
      exact hK46 _ _ _ _ _ _ hR hS (lv_sub hl [1, 0] rfl) hw
end
def wX6_request (post : Int32 → (Nat → Int32) → (Nat → Nat → Int32) → Prop)  (F : (Nat → Int32)) (M : (Nat → Nat → Int32)) : Prop :=
  wX6_open (fun r24 => (r24 = 4 → post 107 (upd F 47 (F 27)) M) ∧ (¬ r24 = 4 → ((F 39) = 0 → ((F 42) = (-1) → wX6_request_b41 post (upd F 47 (F 27)) M) ∧ (¬ (F 42) = (-1) → ((F 43) = 0 → wX6_request_b41 post (upd F 47 (F 27)) M) ∧ (¬ (F 43) = 0 → ∃ n29 : Nat, wX6_request_b46 post n29 (upd F 47 (F 27)) M 0))) ∧ (¬ (F 39) = 0 → wX6_request_b41 post (upd F 47 (F 27)) M))) (upd F 47 (F 27)) M
theorem kX6_request (l : Launch) (D : va_G) (N0 : Nat) (gp : Nat → Nat) (ad : Nat → Nat) (XF : x_X) (h : x_H)  (F : (Nat → Int32)) (M : (Nat → Nat → Int32)) (post : Int32 → (Nat → Int32) → (Nat → Nat → Int32) → Prop) (hw : wX6_request post  F M) : Met l yX6_request (ws_ yX6_request cX6_request 3 (some .int)) rmX6_request (x_Pc D N0 gp (fixM ad F M ++ XF) h [.ref (ad 1000)]) (x_Qc D N0 (x_Vi (qMi ad XF h post))) 0 0 (x_A N0) := by
  refine x_start (lv := [(0, .ref (ad 1000))]) (by decide) rfl (Nat.le_of_ble_eq_true rfl) rfl ?_
  intro p e s m below meth c C hR ls hl
  have hS : va_S (x_A N0) s.heap s.heap [] := va_S.rf
  obtain ⟨⟨hx, hb, hml, hown, hts⟩, hr, hlocks, hG, hN⟩ := id C
  unfold wX6_request at hw
  refine lv_aload_n hx hb dX6_request_0 rfl (lv_at hl 0 rfl) ?_
  refine lv_aload_n hx hb dX6_request_1 rfl (lv_at hl 0 rfl) ?_
  refine x_get (ci := 5) (Cn := RX6) (T := TX6) (N := 55) (v := .int (F 27)) C (hR.rdX 0 rfl) rfl in_X6 27 (by decide) q1206 (fun _ h9 => h9) rfl dX6_request_2 ?_
  refine x_putX (ci := 5) (Cn := RX6) (T := TX6) (N := 55) (v := .int (F 27)) C hR hS 0 rfl rfl in_X6 tyX6_ok nmX6 47 (by decide) q1226 (fun _ h9 => h9) rfl rfl rfl (Nat.le_of_ble_eq_true rfl) (sM_f47 ..) dX6_request_5 (fun H locs hR hS => ?_)
  refine lv_aload_n hx hb dX6_request_8 rfl (lv_at hl 0 rfl) ?_
  refine x_calli0 (x_runV (n := 0) (As := []) C hR hS (kX6_open l D N0 gp ad XF _ (upd F 47 (F 27)) M _ hw) (lw_V q1512 q1514 qs76 q104 q1515) rfl rfl (by decide +kernel) ⟨Nat.le_of_ble_eq_true rfl, Nat.le_of_ble_eq_true rfl⟩ (x_recv C (hR.rdX 0 rfl) rfl) rfl hl.1 rfl (Nat.le_of_ble_eq_true rfl) dX6_request_9 ⟨Nat.le_refl _, Nat.le_refl _⟩) hS (fun r24 X1 h1 H locs hq hR hS => ?_)
  obtain ⟨e1, e2, hw⟩ := hq
  rw [e1, e2] at hR
  refine lv_iconst (v := 4) hx hb dX6_request_12 (by decide) ?_
  refine lv_icmp_ne (tgt := 19) hx hb dX6_request_13 (by decide) (fun c25 => ?_) (fun c25 => ?_)
  · have hw := hw.2 c25
    refine lv_aload_n hx hb dX6_request_19 rfl (lv_at hl 0 rfl) ?_
    refine x_get (ci := 5) (Cn := RX6) (T := TX6) (N := 55) (v := .int (F 39)) C (hR.rdX 0 rfl) rfl in_X6 39 (by decide) q1218 (fun _ h9 => h9) rfl dX6_request_20 ?_
    refine lv_if_ne (tgt := 41) hx hb dX6_request_23 (by decide) (fun c26 => ?_) (fun c26 => ?_)
    · have hw := hw.2 c26
      exact kX6_request_b41 C hR hS (lv_sub hl [] rfl) hw
    · have hw := hw.1 c26
      refine lv_aload_n hx hb dX6_request_26 rfl (lv_at hl 0 rfl) ?_
      refine x_get (ci := 5) (Cn := RX6) (T := TX6) (N := 55) (v := .int (F 42)) C (hR.rdX 0 rfl) rfl in_X6 42 (by decide) q1221 (fun _ h9 => h9) rfl dX6_request_27 ?_
      refine lv_iconst (v := -1) hx hb dX6_request_30 (by decide) ?_
      refine lv_icmp_eq (tgt := 41) hx hb dX6_request_31 (by decide) (fun c27 => ?_) (fun c27 => ?_)
      · have hw := hw.1 c27
        exact kX6_request_b41 C hR hS (lv_sub hl [] rfl) hw
      · have hw := hw.2 c27
        refine lv_aload_n hx hb dX6_request_34 rfl (lv_at hl 0 rfl) ?_
        refine x_get (ci := 5) (Cn := RX6) (T := TX6) (N := 55) (v := .int (F 43)) C (hR.rdX 0 rfl) rfl in_X6 43 (by decide) q1222 (fun _ h9 => h9) rfl dX6_request_35 ?_
        refine lv_if_ne (tgt := 44) hx hb dX6_request_38 (by decide) (fun c28 => ?_) (fun c28 => ?_)
        · have hw := hw.2 c28
          refine lv_iconst (v := 0) hx hb dX6_request_44 (by decide) ?_
          refine lv_istore_n (lv' := [(1, .int 0), (0, .ref (ad 1000))]) hx hb dX6_request_45 rfl hl (by decide) rfl (fun ls hl => ?_)
          obtain ⟨n29, hw⟩ := hw
          exact kX6_request_b46 C n29 _ _ _ _ _ _ hR hS (lv_sub hl [1, 0] rfl) hw
        · have hw := hw.1 c28
          exact kX6_request_b41 C hR hS (lv_sub hl [] rfl) hw
  · have hw := hw.1 c25
    refine lv_bipush (v := 107) hx hb dX6_request_16 (by decide) ?_
    exact x_endi C hR hS ⟨_, rfl, ⟨_, _, rfl, rfl, hw⟩⟩ (Nat.le_refl _) (Nat.le_refl _) dX6_request_18
/-- PageServerModel.more()I -/
abbrev rmX6_more : Room := { frames := 6, cells := 0, slots := 0, locals := 126 }
section
variable {p : Program} {l : Launch} {e : Env} {s : State} {m : MethodId} {args : Array Value} {below : List Frame} {meth : Method} {c : Code} {D : va_G} {N0 : Nat} {gp : Nat → Nat} {ad : Nat → Nat} {XF : x_X} {h : x_H}
def wX6_more_b136 (post : Int32 → (Nat → Int32) → (Nat → Nat → Int32) → Prop)  (F : (Nat → Int32)) (M : (Nat → Nat → Int32)) (s0 : Int32) : Prop :=
  post s0 F M
theorem kX6_more_b136 {post : Int32 → (Nat → Int32) → (Nat → Nat → Int32) → Prop} (C : x_C p s m args meth c cX6_more 2 (some .int) RX6 D N0 gp) {F : (Nat → Int32)} {M : (Nat → Nat → Int32)} {s0 : Int32} {H : Heap} {locs : List Loc} {ls : Array Slot} (hR : x_R D s N0 (fixM ad F M ++ XF) h H) (hS : va_S (x_A N0) s.heap H locs) (hl : lv_has ls 2 []) (hw : wX6_more_b136 post F M s0) : W p l e rmX6_more s m args below meth c H locs 0 0 (MQ below (x_Qc D N0 (x_Vi (qMi ad XF h post))) args s 0 0 (x_A N0)) (F0 m 136 ls [.int s0]) := by
  obtain ⟨⟨hx, hb, hml, hown, hts⟩, hr, hlocks, hG, hN⟩ := id C
  unfold wX6_more_b136 at hw
  exact x_endi C hR hS ⟨_, rfl, ⟨_, _, rfl, rfl, hw⟩⟩ (Nat.le_refl _) (Nat.le_refl _) dX6_more_136
def wX6_more_b126 (post : Int32 → (Nat → Int32) → (Nat → Nat → Int32) → Prop)  (F : (Nat → Int32)) (M : (Nat → Nat → Int32)) : Prop :=
  wX6_more_b136 post F M 101
theorem kX6_more_b126 {post : Int32 → (Nat → Int32) → (Nat → Nat → Int32) → Prop} (C : x_C p s m args meth c cX6_more 2 (some .int) RX6 D N0 gp) {F : (Nat → Int32)} {M : (Nat → Nat → Int32)} {H : Heap} {locs : List Loc} {ls : Array Slot} (hR : x_R D s N0 (fixM ad F M ++ XF) h H) (hS : va_S (x_A N0) s.heap H locs) (hl : lv_has ls 2 []) (hw : wX6_more_b126 post F M) : W p l e rmX6_more s m args below meth c H locs 0 0 (MQ below (x_Qc D N0 (x_Vi (qMi ad XF h post))) args s 0 0 (x_A N0)) (F0 m 126 ls []) := by
  obtain ⟨⟨hx, hb, hml, hown, hts⟩, hr, hlocks, hG, hN⟩ := id C
  unfold wX6_more_b126 at hw
  refine lv_bipush (v := 101) hx hb dX6_more_126 (by decide) ?_
  refine lv_goto (tgt := 136) hx hb dX6_more_128 (by decide) ?_
  exact kX6_more_b136 C hR hS (lv_sub hl [] rfl) hw
def wX6_more_b68 (post : Int32 → (Nat → Int32) → (Nat → Nat → Int32) → Prop)  (F : (Nat → Int32)) (M : (Nat → Nat → Int32)) : Prop :=
  wX6_has (fun r24 => (r24 = 0 → post 0 F M) ∧ (¬ r24 = 0 → wX6_readBlock (fun r26 F27 M27 => (r26 = 0 → post 9 F27 M27) ∧ (¬ r26 = 0 → wX6_slotOf (fun r29 => (r29 = (-1) → wX6_request (fun r35 F36 M36 => post r35 F36 M36) F27 M27) ∧ (¬ r29 = (-1) → ((F27 33) = 0 → wX6_more_b126 post F27 M27) ∧ (¬ (F27 33) = 0 → ((F27 40) = 0 → wX6_close (fun r33 F34 M34 => wX6_more_b136 post F34 M34 r33) r29 F27 M27) ∧ (¬ (F27 40) = 0 → wX6_more_b126 post F27 M27)))) (F27 27) F27 M27)) (upd F 32 (-1)) M)) 4 F M
theorem kX6_more_b68 {post : Int32 → (Nat → Int32) → (Nat → Nat → Int32) → Prop} (C : x_C p s m args meth c cX6_more 2 (some .int) RX6 D N0 gp) {F : (Nat → Int32)} {M : (Nat → Nat → Int32)} {H : Heap} {locs : List Loc} {ls : Array Slot} (hR : x_R D s N0 (fixM ad F M ++ XF) h H) (hS : va_S (x_A N0) s.heap H locs) (hl : lv_has ls 2 [(0, .ref (ad 1000))]) (hw : wX6_more_b68 post F M) : W p l e rmX6_more s m args below meth c H locs 0 0 (MQ below (x_Qc D N0 (x_Vi (qMi ad XF h post))) args s 0 0 (x_A N0)) (F0 m 68 ls []) := by
  obtain ⟨⟨hx, hb, hml, hown, hts⟩, hr, hlocks, hG, hN⟩ := id C
  unfold wX6_more_b68 at hw
  refine lv_aload_n hx hb dX6_more_68 rfl (lv_at hl 0 rfl) ?_
  refine lv_iconst (v := 4) hx hb dX6_more_69 (by decide) ?_
  refine x_calli0 (x_runV (n := 1) (As := [.int 4]) C hR hS (kX6_has l D N0 gp ad XF _ 4 F M _ hw) (lw_V q1407 q1409 qs50 q104 q1410) rfl rfl (by decide +kernel) ⟨Nat.le_of_ble_eq_true rfl, Nat.le_of_ble_eq_true rfl⟩ (x_recv C (hR.rdX 0 rfl) rfl) rfl hl.1 rfl (Nat.le_of_ble_eq_true rfl) dX6_more_70 ⟨Nat.le_refl _, Nat.le_refl _⟩) hS (fun r24 X1 h1 H locs hq hR hS => ?_)
  obtain ⟨e1, e2, hw⟩ := hq
  rw [e1, e2] at hR
  refine lv_if_ne (tgt := 78) hx hb dX6_more_73 (by decide) (fun c25 => ?_) (fun c25 => ?_)
  · have hw := hw.2 c25
    refine lv_aload_n hx hb dX6_more_78 rfl (lv_at hl 0 rfl) ?_
    refine lv_iconst (v := -1) hx hb dX6_more_79 (by decide) ?_
    refine x_putX (ci := 5) (Cn := RX6) (T := TX6) (N := 55) (v := .int (-1)) C hR hS 0 rfl rfl in_X6 tyX6_ok nmX6 32 (by decide) q1211 (fun _ h9 => h9) rfl rfl rfl (Nat.le_of_ble_eq_true rfl) (sM_f32 ..) dX6_more_80 (fun H locs hR hS => ?_)
    refine lv_aload_n hx hb dX6_more_83 rfl (lv_at hl 0 rfl) ?_
    refine x_calli0 (x_runV (n := 0) (As := []) C hR hS (kX6_readBlock l D N0 gp ad XF _ (upd F 32 (-1)) M _ hw) (lw_V q1447 q1449 qs60 q104 q1450) rfl rfl (by decide +kernel) ⟨Nat.le_of_ble_eq_true rfl, Nat.le_of_ble_eq_true rfl⟩ (x_recv C (hR.rdX 0 rfl) rfl) rfl hl.1 rfl (Nat.le_of_ble_eq_true rfl) dX6_more_84 ⟨Nat.le_refl _, Nat.le_refl _⟩) hS (fun r26 X1 h1 H locs hq hR hS => ?_)
    obtain ⟨F27, M27, e1, e2, hw⟩ := hq
    rw [e1, e2] at hR
    refine lv_if_ne (tgt := 93) hx hb dX6_more_87 (by decide) (fun c28 => ?_) (fun c28 => ?_)
    · have hw := hw.2 c28
      refine lv_aload_n hx hb dX6_more_93 rfl (lv_at hl 0 rfl) ?_
      refine lv_aload_n hx hb dX6_more_94 rfl (lv_at hl 0 rfl) ?_
      refine x_get (ci := 5) (Cn := RX6) (T := TX6) (N := 55) (v := .int (F27 27)) C (hR.rdX 0 rfl) rfl in_X6 27 (by decide) q1206 (fun _ h9 => h9) rfl dX6_more_95 ?_
      refine x_calli0 (x_runV (n := 1) (As := [.int (F27 27)]) C hR hS (kX6_slotOf l D N0 gp ad XF _ (F27 27) F27 M27 _ hw) (lw_V q1427 q1429 qs55 q104 q1430) rfl rfl (by decide +kernel) ⟨Nat.le_of_ble_eq_true rfl, Nat.le_of_ble_eq_true rfl⟩ (x_recv C (hR.rdX 0 rfl) rfl) rfl hl.1 rfl (Nat.le_of_ble_eq_true rfl) dX6_more_98 ⟨Nat.le_refl _, Nat.le_refl _⟩) hS (fun r29 X1 h1 H locs hq hR hS => ?_)
      obtain ⟨e1, e2, hw⟩ := hq
      rw [e1, e2] at hR
      refine lv_istore_n (lv' := [(1, .int r29), (0, .ref (ad 1000))]) hx hb dX6_more_101 rfl hl (by decide) rfl (fun ls hl => ?_)
      refine lv_iload_n hx hb dX6_more_102 rfl (lv_at hl 0 rfl) ?_
      refine lv_iconst (v := -1) hx hb dX6_more_103 (by decide) ?_
      refine lv_icmp_ne (tgt := 112) hx hb dX6_more_104 (by decide) (fun c30 => ?_) (fun c30 => ?_)
      · have hw := hw.2 c30
        refine lv_aload_n hx hb dX6_more_112 rfl (lv_at hl 1 rfl) ?_
        refine x_get (ci := 5) (Cn := RX6) (T := TX6) (N := 55) (v := .int (F27 33)) C (hR.rdX 0 rfl) rfl in_X6 33 (by decide) q1212 (fun _ h9 => h9) rfl dX6_more_113 ?_
        refine lv_if_eq (tgt := 126) hx hb dX6_more_116 (by decide) (fun c31 => ?_) (fun c31 => ?_)
        · have hw := hw.1 c31
          exact kX6_more_b126 C hR hS (lv_sub hl [] rfl) hw
        · have hw := hw.2 c31
          refine lv_aload_n hx hb dX6_more_119 rfl (lv_at hl 1 rfl) ?_
          refine x_get (ci := 5) (Cn := RX6) (T := TX6) (N := 55) (v := .int (F27 40)) C (hR.rdX 0 rfl) rfl in_X6 40 (by decide) q1219 (fun _ h9 => h9) rfl dX6_more_120 ?_
          refine lv_if_eq (tgt := 131) hx hb dX6_more_123 (by decide) (fun c32 => ?_) (fun c32 => ?_)
          · have hw := hw.1 c32
            refine lv_aload_n hx hb dX6_more_131 rfl (lv_at hl 1 rfl) ?_
            refine lv_iload_n hx hb dX6_more_132 rfl (lv_at hl 0 rfl) ?_
            refine x_calli0 (x_runV (n := 1) (As := [.int r29]) C hR hS (kX6_close l D N0 gp ad XF _ r29 F27 M27 _ hw) (lw_V q1431 q1433 qs56 q104 q1434) rfl rfl (by decide +kernel) ⟨Nat.le_of_ble_eq_true rfl, Nat.le_of_ble_eq_true rfl⟩ (x_recv C (hR.rdX 0 rfl) rfl) rfl hl.1 rfl (Nat.le_of_ble_eq_true rfl) dX6_more_133 ⟨Nat.le_refl _, Nat.le_refl _⟩) hS (fun r33 X1 h1 H locs hq hR hS => ?_)
            obtain ⟨F34, M34, e1, e2, hw⟩ := hq
            rw [e1, e2] at hR
            exact kX6_more_b136 C hR hS (lv_sub hl [] rfl) hw
          · have hw := hw.2 c32
            exact kX6_more_b126 C hR hS (lv_sub hl [] rfl) hw
      · have hw := hw.1 c30
        refine lv_aload_n hx hb dX6_more_107 rfl (lv_at hl 1 rfl) ?_
        refine x_calli0 (x_runV (n := 0) (As := []) C hR hS (kX6_request l D N0 gp ad XF _ F27 M27 _ hw) (lw_V q1508 q1510 qs75 q104 q1511) rfl rfl (by decide +kernel) ⟨Nat.le_of_ble_eq_true rfl, Nat.le_of_ble_eq_true rfl⟩ (x_recv C (hR.rdX 0 rfl) rfl) rfl hl.1 rfl (Nat.le_of_ble_eq_true rfl) dX6_more_108 ⟨Nat.le_refl _, Nat.le_refl _⟩) hS (fun r35 X1 h1 H locs hq hR hS => ?_)
        obtain ⟨F36, M36, e1, e2, hw⟩ := hq
        rw [e1, e2] at hR
        exact x_endi C hR hS ⟨_, rfl, ⟨_, _, rfl, rfl, hw⟩⟩ (Nat.le_refl _) (Nat.le_refl _) dX6_more_111
    · have hw := hw.1 c28
      refine lv_bipush (v := 9) hx hb dX6_more_90 (by decide) ?_
      exact x_endi C hR hS ⟨_, rfl, ⟨_, _, rfl, rfl, hw⟩⟩ (Nat.le_refl _) (Nat.le_refl _) dX6_more_92
  · have hw := hw.1 c25
    refine lv_iconst (v := 0) hx hb dX6_more_76 (by decide) ?_
    exact x_endi C hR hS ⟨_, rfl, ⟨_, _, rfl, rfl, hw⟩⟩ (Nat.le_refl _) (Nat.le_refl _) dX6_more_77
def tX6_more_b27 (post : Int32 → (Nat → Int32) → (Nat → Nat → Int32) → Prop) (K27 : (Nat → Int32) → (Nat → Nat → Int32) → Int32 → Prop)  (F : (Nat → Int32)) (M : (Nat → Nat → Int32)) (x1 : Int32) : Prop :=
  ((F 30) ≤ x1 → wX6_more_b68 post F M) ∧ (¬ (F 30) ≤ x1 → vp_in ((4 : Int32) + x1) 204 ∧ vp_in (F 34) 100 ∧ K27 (upd F 34 ((F 34) + 1)) (va_up M 35 (upd (M 35) (F 34).toNatClampNeg ((M 24) ((4 : Int32) + x1).toNatClampNeg))) (x1 + 1))
def wX6_more_b27 (post : Int32 → (Nat → Int32) → (Nat → Nat → Int32) → Prop)  : Nat → (Nat → Int32) → (Nat → Nat → Int32) → Int32 → Prop
  | 0 => fun _ _ _ => False
  | n + 1 => fun F M x1 => tX6_more_b27 post (wX6_more_b27 post n)  F M x1
theorem kX6_more_b27 {post : Int32 → (Nat → Int32) → (Nat → Nat → Int32) → Prop} (C : x_C p s m args meth c cX6_more 2 (some .int) RX6 D N0 gp) : ∀ (nn : Nat) (F : (Nat → Int32)) (M : (Nat → Nat → Int32)) (x1 : Int32) (H : Heap) (locs : List Loc) (ls : Array Slot), x_R D s N0 (fixM ad F M ++ XF) h H → va_S (x_A N0) s.heap H locs → lv_has ls 2 [(0, .ref (ad 1000)), (1, .int x1)] → wX6_more_b27 post nn F M x1 → W p l e rmX6_more s m args below meth c H locs 0 0 (MQ below (x_Qc D N0 (x_Vi (qMi ad XF h post))) args s 0 0 (x_A N0)) (F0 m 27 ls []) := by
  obtain ⟨⟨hx, hb, hml, hown, hts⟩, hr, hlocks, hG, hN⟩ := id C
  intro nn
  induction nn with
  | zero =>
    intro F M x1 H locs ls hR hS hl hw
    exact False.elim hw
  | succ nn ih =>
    intro F M x1 H locs ls hR hS hl hw
    have hK27 := ih
    have hw : tX6_more_b27 post (wX6_more_b27 post nn)  F M x1 := hw
    unfold tX6_more_b27 at hw
    refine lv_iload_n hx hb dX6_more_27 rfl (lv_at hl 1 rfl) ?_
    refine lv_aload_n hx hb dX6_more_28 rfl (lv_at hl 0 rfl) ?_
    refine x_get (ci := 5) (Cn := RX6) (T := TX6) (N := 55) (v := .int (F 30)) C (hR.rdX 0 rfl) rfl in_X6 30 (by decide) q1209 (fun _ h9 => h9) rfl dX6_more_29 ?_
    refine lv_icmp_ge (tgt := 68) hx hb dX6_more_32 (by decide) (fun c21 => ?_) (fun c21 => ?_)
    · have hw := hw.1 c21
      exact kX6_more_b68 C hR hS (lv_sub hl [0] rfl) hw
    · have hw := hw.2 c21
      refine lv_aload_n hx hb dX6_more_35 rfl (lv_at hl 0 rfl) ?_
      refine x_get (ci := 5) (Cn := RX6) (T := TX6) (N := 55) (v := .ref (ad 35)) C (hR.rdX 0 rfl) rfl in_X6 35 (by decide) q1214 (fun _ h9 => h9) rfl dX6_more_36 ?_
      refine lv_aload_n hx hb dX6_more_39 rfl (lv_at hl 0 rfl) ?_
      refine x_get (ci := 5) (Cn := RX6) (T := TX6) (N := 55) (v := .int (F 34)) C (hR.rdX 0 rfl) rfl in_X6 34 (by decide) q1213 (fun _ h9 => h9) rfl dX6_more_40 ?_
      refine lv_aload_n hx hb dX6_more_43 rfl (lv_at hl 0 rfl) ?_
      refine x_get (ci := 5) (Cn := RX6) (T := TX6) (N := 55) (v := .ref (ad 24)) C (hR.rdX 0 rfl) rfl in_X6 24 (by decide) q1203 (fun _ h9 => h9) rfl dX6_more_44 ?_
      refine lv_iconst (v := 4) hx hb dX6_more_47 (by decide) ?_
      refine lv_iload_n hx hb dX6_more_48 rfl (lv_at hl 1 rfl) ?_
      refine lv_iadd hx hb dX6_more_49 ?_
      obtain ⟨b22, hw⟩ := hw
      refine x_iald (n := 204) (f := (M 24)) C (hR.rdX 19 rfl) b22 dX6_more_50 ?_
      obtain ⟨b23, hw⟩ := hw
      refine x_iastX (n := 100) (f := (M 35)) C hR hS 20 rfl b23 (sM_a35 ..) dX6_more_51 (fun H locs hR hS => ?_)
      refine lv_aload_n hx hb dX6_more_52 rfl (lv_at hl 0 rfl) ?_
      refine lv_dup hx hb dX6_more_53 rfl ?_
      refine x_get (ci := 5) (Cn := RX6) (T := TX6) (N := 55) (v := .int (F 34)) C (hR.rdX 0 rfl) rfl in_X6 34 (by decide) q1213 (fun _ h9 => h9) rfl dX6_more_54 ?_
      refine lv_iconst (v := 1) hx hb dX6_more_57 (by decide) ?_
      refine lv_iadd hx hb dX6_more_58 ?_
      refine x_putX (ci := 5) (Cn := RX6) (T := TX6) (N := 55) (v := .int ((F 34) + 1)) C hR hS 0 rfl rfl in_X6 tyX6_ok nmX6 34 (by decide) q1213 (fun _ h9 => h9) rfl rfl rfl (Nat.le_of_ble_eq_true rfl) (sM_f34 ..) dX6_more_59 (fun H locs hR hS => ?_)
      refine lv_iinc (v := x1 + 1) (lv' := [(1, .int (x1 + 1)), (0, .ref (ad 1000))]) hx hb dX6_more_62 hl (k := 1) rfl (x_inc 1 1 (by decide)) (by decide) rfl (fun ls hl => ?_)
      refine lv_goto (tgt := 27) hx hb dX6_more_65 (by decide) ?_
      exact hK27 _ _ _ _ _ _ hR hS (lv_sub hl [1, 0] rfl) hw
end
def wX6_more (post : Int32 → (Nat → Int32) → (Nat → Nat → Int32) → Prop)  (F : (Nat → Int32)) (M : (Nat → Nat → Int32)) : Prop :=
  ((((F 34) + (F 30)) - (F 29)) ≤ 100 → ∃ n20 : Nat, wX6_more_b27 post n20 F M (F 29)) ∧ (¬ (((F 34) + (F 30)) - (F 29)) ≤ 100 → post 9 F M)
theorem kX6_more (l : Launch) (D : va_G) (N0 : Nat) (gp : Nat → Nat) (ad : Nat → Nat) (XF : x_X) (h : x_H)  (F : (Nat → Int32)) (M : (Nat → Nat → Int32)) (post : Int32 → (Nat → Int32) → (Nat → Nat → Int32) → Prop) (hw : wX6_more post  F M) : Met l yX6_more (ws_ yX6_more cX6_more 2 (some .int)) rmX6_more (x_Pc D N0 gp (fixM ad F M ++ XF) h [.ref (ad 1000)]) (x_Qc D N0 (x_Vi (qMi ad XF h post))) 0 0 (x_A N0) := by
  refine x_start (lv := [(0, .ref (ad 1000))]) (by decide) rfl (Nat.le_of_ble_eq_true rfl) rfl ?_
  intro p e s m below meth c C hR ls hl
  have hS : va_S (x_A N0) s.heap s.heap [] := va_S.rf
  obtain ⟨⟨hx, hb, hml, hown, hts⟩, hr, hlocks, hG, hN⟩ := id C
  unfold wX6_more at hw
  refine lv_aload_n hx hb dX6_more_0 rfl (lv_at hl 0 rfl) ?_
  refine x_get (ci := 5) (Cn := RX6) (T := TX6) (N := 55) (v := .int (F 34)) C (hR.rdX 0 rfl) rfl in_X6 34 (by decide) q1213 (fun _ h9 => h9) rfl dX6_more_1 ?_
  refine lv_aload_n hx hb dX6_more_4 rfl (lv_at hl 0 rfl) ?_
  refine x_get (ci := 5) (Cn := RX6) (T := TX6) (N := 55) (v := .int (F 30)) C (hR.rdX 0 rfl) rfl in_X6 30 (by decide) q1209 (fun _ h9 => h9) rfl dX6_more_5 ?_
  refine lv_iadd hx hb dX6_more_8 ?_
  refine lv_aload_n hx hb dX6_more_9 rfl (lv_at hl 0 rfl) ?_
  refine x_get (ci := 5) (Cn := RX6) (T := TX6) (N := 55) (v := .int (F 29)) C (hR.rdX 0 rfl) rfl in_X6 29 (by decide) q1208 (fun _ h9 => h9) rfl dX6_more_10 ?_
  refine lv_isub hx hb dX6_more_13 ?_
  refine lv_bipush (v := 100) hx hb dX6_more_14 (by decide) ?_
  refine lv_icmp_le (tgt := 22) hx hb dX6_more_16 (by decide) (fun c19 => ?_) (fun c19 => ?_)
  · have hw := hw.1 c19
    refine lv_aload_n hx hb dX6_more_22 rfl (lv_at hl 0 rfl) ?_
    refine x_get (ci := 5) (Cn := RX6) (T := TX6) (N := 55) (v := .int (F 29)) C (hR.rdX 0 rfl) rfl in_X6 29 (by decide) q1208 (fun _ h9 => h9) rfl dX6_more_23 ?_
    refine lv_istore_n (lv' := [(1, .int (F 29)), (0, .ref (ad 1000))]) hx hb dX6_more_26 rfl hl (by decide) rfl (fun ls hl => ?_)
    obtain ⟨n20, hw⟩ := hw
    exact kX6_more_b27 C n20 _ _ _ _ _ _ hR hS (lv_sub hl [1, 0] rfl) hw
  · have hw := hw.2 c19
    refine lv_bipush (v := 9) hx hb dX6_more_19 (by decide) ?_
    exact x_endi C hR hS ⟨_, rfl, ⟨_, _, rfl, rfl, hw⟩⟩ (Nat.le_refl _) (Nat.le_refl _) dX6_more_21
/-- PageServerModel.headers()I -/
abbrev rmX6_headers : Room := { frames := 7, cells := 0, slots := 0, locals := 147 }
section
variable {p : Program} {l : Launch} {e : Env} {s : State} {m : MethodId} {args : Array Value} {below : List Frame} {meth : Method} {c : Code} {D : va_G} {N0 : Nat} {gp : Nat → Nat} {ad : Nat → Nat} {XF : x_X} {h : x_H}
def wX6_headers_b16 (post : Int32 → (Nat → Int32) → (Nat → Nat → Int32) → Prop)  (F : (Nat → Int32)) (M : (Nat → Nat → Int32)) : Prop :=
  post 1 F M
theorem kX6_headers_b16 {post : Int32 → (Nat → Int32) → (Nat → Nat → Int32) → Prop} (C : x_C p s m args meth c cX6_headers 2 (some .int) RX6 D N0 gp) {F : (Nat → Int32)} {M : (Nat → Nat → Int32)} {H : Heap} {locs : List Loc} {ls : Array Slot} (hR : x_R D s N0 (fixM ad F M ++ XF) h H) (hS : va_S (x_A N0) s.heap H locs) (hl : lv_has ls 2 []) (hw : wX6_headers_b16 post F M) : W p l e rmX6_headers s m args below meth c H locs 0 0 (MQ below (x_Qc D N0 (x_Vi (qMi ad XF h post))) args s 0 0 (x_A N0)) (F0 m 16 ls []) := by
  obtain ⟨⟨hx, hb, hml, hown, hts⟩, hr, hlocks, hG, hN⟩ := id C
  unfold wX6_headers_b16 at hw
  refine lv_iconst (v := 1) hx hb dX6_headers_16 (by decide) ?_
  exact x_endi C hR hS ⟨_, rfl, ⟨_, _, rfl, rfl, hw⟩⟩ (Nat.le_refl _) (Nat.le_refl _) dX6_headers_17
def wX6_headers_b52 (post : Int32 → (Nat → Int32) → (Nat → Nat → Int32) → Prop)  (F : (Nat → Int32)) (M : (Nat → Nat → Int32)) : Prop :=
  post 5 F M
theorem kX6_headers_b52 {post : Int32 → (Nat → Int32) → (Nat → Nat → Int32) → Prop} (C : x_C p s m args meth c cX6_headers 2 (some .int) RX6 D N0 gp) {F : (Nat → Int32)} {M : (Nat → Nat → Int32)} {H : Heap} {locs : List Loc} {ls : Array Slot} (hR : x_R D s N0 (fixM ad F M ++ XF) h H) (hS : va_S (x_A N0) s.heap H locs) (hl : lv_has ls 2 []) (hw : wX6_headers_b52 post F M) : W p l e rmX6_headers s m args below meth c H locs 0 0 (MQ below (x_Qc D N0 (x_Vi (qMi ad XF h post))) args s 0 0 (x_A N0)) (F0 m 52 ls []) := by
  obtain ⟨⟨hx, hb, hml, hown, hts⟩, hr, hlocks, hG, hN⟩ := id C
  unfold wX6_headers_b52 at hw
  refine lv_iconst (v := 5) hx hb dX6_headers_52 (by decide) ?_
  exact x_endi C hR hS ⟨_, rfl, ⟨_, _, rfl, rfl, hw⟩⟩ (Nat.le_refl _) (Nat.le_refl _) dX6_headers_53
def wX6_headers_b54 (post : Int32 → (Nat → Int32) → (Nat → Nat → Int32) → Prop)  (F : (Nat → Int32)) (M : (Nat → Nat → Int32)) : Prop :=
  wX6_has (fun r23 => x_bit r23 ∧ wX6_more (fun r25 F26 M26 => post r25 F26 M26) (upd (upd (upd F 34 0) 32 (F 27)) 33 r23) M) 1 (upd (upd F 34 0) 32 (F 27)) M
theorem kX6_headers_b54 {post : Int32 → (Nat → Int32) → (Nat → Nat → Int32) → Prop} (C : x_C p s m args meth c cX6_headers 2 (some .int) RX6 D N0 gp) {F : (Nat → Int32)} {M : (Nat → Nat → Int32)} {H : Heap} {locs : List Loc} {ls : Array Slot} (hR : x_R D s N0 (fixM ad F M ++ XF) h H) (hS : va_S (x_A N0) s.heap H locs) (hl : lv_has ls 2 [(0, .ref (ad 1000))]) (hw : wX6_headers_b54 post F M) : W p l e rmX6_headers s m args below meth c H locs 0 0 (MQ below (x_Qc D N0 (x_Vi (qMi ad XF h post))) args s 0 0 (x_A N0)) (F0 m 54 ls []) := by
  obtain ⟨⟨hx, hb, hml, hown, hts⟩, hr, hlocks, hG, hN⟩ := id C
  unfold wX6_headers_b54 at hw
  refine lv_aload_n hx hb dX6_headers_54 rfl (lv_at hl 0 rfl) ?_
  refine lv_iconst (v := 0) hx hb dX6_headers_55 (by decide) ?_
  refine x_putX (ci := 5) (Cn := RX6) (T := TX6) (N := 55) (v := .int 0) C hR hS 0 rfl rfl in_X6 tyX6_ok nmX6 34 (by decide) q1213 (fun _ h9 => h9) rfl rfl rfl (Nat.le_of_ble_eq_true rfl) (sM_f34 ..) dX6_headers_56 (fun H locs hR hS => ?_)
  refine lv_aload_n hx hb dX6_headers_59 rfl (lv_at hl 0 rfl) ?_
  refine lv_aload_n hx hb dX6_headers_60 rfl (lv_at hl 0 rfl) ?_
  refine x_get (ci := 5) (Cn := RX6) (T := TX6) (N := 55) (v := .int (F 27)) C (hR.rdX 0 rfl) rfl in_X6 27 (by decide) q1206 (fun _ h9 => h9) rfl dX6_headers_61 ?_
  refine x_putX (ci := 5) (Cn := RX6) (T := TX6) (N := 55) (v := .int (F 27)) C hR hS 0 rfl rfl in_X6 tyX6_ok nmX6 32 (by decide) q1211 (fun _ h9 => h9) rfl rfl rfl (Nat.le_of_ble_eq_true rfl) (sM_f32 ..) dX6_headers_64 (fun H locs hR hS => ?_)
  refine lv_aload_n hx hb dX6_headers_67 rfl (lv_at hl 0 rfl) ?_
  refine lv_aload_n hx hb dX6_headers_68 rfl (lv_at hl 0 rfl) ?_
  refine lv_iconst (v := 1) hx hb dX6_headers_69 (by decide) ?_
  refine x_calli0 (x_runV (n := 1) (As := [.int 1]) C hR hS (kX6_has l D N0 gp ad XF _ 1 (upd (upd F 34 0) 32 (F 27)) M _ hw) (lw_V q1407 q1409 qs50 q104 q1410) rfl rfl (by decide +kernel) ⟨Nat.le_of_ble_eq_true rfl, Nat.le_of_ble_eq_true rfl⟩ (x_recv C (hR.rdX 0 rfl) rfl) rfl hl.1 rfl (Nat.le_of_ble_eq_true rfl) dX6_headers_70 ⟨Nat.le_refl _, Nat.le_refl _⟩) hS (fun r23 X1 h1 H locs hq hR hS => ?_)
  obtain ⟨e1, e2, hw⟩ := hq
  rw [e1, e2] at hR
  obtain ⟨z24, hw⟩ := hw
  refine x_putX (ci := 5) (Cn := RX6) (T := TX6) (N := 55) (v := .int r23) C hR hS 0 rfl rfl in_X6 tyX6_ok nmX6 33 (by decide) q1212 (fun _ h9 => h9) rfl (x_bitN z24) (x_bitF z24) (Nat.le_of_ble_eq_true rfl) (sM_f33 ..) dX6_headers_73 (fun H locs hR hS => ?_)
  refine lv_aload_n hx hb dX6_headers_76 rfl (lv_at hl 0 rfl) ?_
  refine x_calli0 (x_runV (n := 0) (As := []) C hR hS (kX6_more l D N0 gp ad XF _ (upd (upd (upd F 34 0) 32 (F 27)) 33 r23) M _ hw) (lw_V q1443 q1445 qs59 q104 q1446) rfl rfl (by decide +kernel) ⟨Nat.le_of_ble_eq_true rfl, Nat.le_of_ble_eq_true rfl⟩ (x_recv C (hR.rdX 0 rfl) rfl) rfl hl.1 rfl (Nat.le_of_ble_eq_true rfl) dX6_headers_77 ⟨Nat.le_refl _, Nat.le_refl _⟩) hS (fun r25 X1 h1 H locs hq hR hS => ?_)
  obtain ⟨F26, M26, e1, e2, hw⟩ := hq
  rw [e1, e2] at hR
  exact x_endi C hR hS ⟨_, rfl, ⟨_, _, rfl, rfl, hw⟩⟩ (Nat.le_refl _) (Nat.le_refl _) dX6_headers_80
end
def wX6_headers (post : Int32 → (Nat → Int32) → (Nat → Nat → Int32) → Prop)  (F : (Nat → Int32)) (M : (Nat → Nat → Int32)) : Prop :=
  (((F 27) - (F 27) / 2 * 2) = 0 → wX6_headers_b16 post F M) ∧ (¬ ((F 27) - (F 27) / 2 * 2) = 0 → wX6_unpad (fun r15 F16 M16 => (r15 = 0 → wX6_headers_b16 post F16 M16) ∧ (¬ r15 = 0 → wX6_slotOf (fun r18 => ((F16 47) < (F16 27) → wX6_headers_b54 post F16 M16) ∧ (¬ (F16 47) < (F16 27) → (r18 = (-1) → wX6_headers_b52 post F16 M16) ∧ (¬ r18 = (-1) → vp_in r18 4 ∧ (((M16 18) r18.toNatClampNeg) = 0 → wX6_headers_b54 post F16 M16) ∧ (¬ ((M16 18) r18.toNatClampNeg) = 0 → wX6_headers_b52 post F16 M16)))) (F16 27) F16 M16)) F M)
theorem kX6_headers (l : Launch) (D : va_G) (N0 : Nat) (gp : Nat → Nat) (ad : Nat → Nat) (XF : x_X) (h : x_H)  (F : (Nat → Int32)) (M : (Nat → Nat → Int32)) (post : Int32 → (Nat → Int32) → (Nat → Nat → Int32) → Prop) (hw : wX6_headers post  F M) : Met l yX6_headers (ws_ yX6_headers cX6_headers 2 (some .int)) rmX6_headers (x_Pc D N0 gp (fixM ad F M ++ XF) h [.ref (ad 1000)]) (x_Qc D N0 (x_Vi (qMi ad XF h post))) 0 0 (x_A N0) := by
  refine x_start (lv := [(0, .ref (ad 1000))]) (by decide) rfl (Nat.le_of_ble_eq_true rfl) rfl ?_
  intro p e s m below meth c C hR ls hl
  have hS : va_S (x_A N0) s.heap s.heap [] := va_S.rf
  obtain ⟨⟨hx, hb, hml, hown, hts⟩, hr, hlocks, hG, hN⟩ := id C
  unfold wX6_headers at hw
  refine lv_aload_n hx hb dX6_headers_0 rfl (lv_at hl 0 rfl) ?_
  refine x_get (ci := 5) (Cn := RX6) (T := TX6) (N := 55) (v := .int (F 27)) C (hR.rdX 0 rfl) rfl in_X6 27 (by decide) q1206 (fun _ h9 => h9) rfl dX6_headers_1 ?_
  refine lv_iconst (v := 2) hx hb dX6_headers_4 (by decide) ?_
  refine lv_irem hx hb dX6_headers_5 (by decide) ?_
  refine lv_if_eq (tgt := 16) hx hb dX6_headers_6 (by decide) (fun c14 => ?_) (fun c14 => ?_)
  · have hw := hw.1 c14
    exact kX6_headers_b16 C hR hS (lv_sub hl [] rfl) hw
  · have hw := hw.2 c14
    refine lv_aload_n hx hb dX6_headers_9 rfl (lv_at hl 0 rfl) ?_
    refine x_calli0 (x_runV (n := 0) (As := []) C hR hS (kX6_unpad l D N0 gp ad XF _ F M _ hw) (lw_V q1419 q1421 qs53 q104 q1422) rfl rfl (by decide +kernel) ⟨Nat.le_of_ble_eq_true rfl, Nat.le_of_ble_eq_true rfl⟩ (x_recv C (hR.rdX 0 rfl) rfl) rfl hl.1 rfl (Nat.le_of_ble_eq_true rfl) dX6_headers_10 ⟨Nat.le_refl _, Nat.le_refl _⟩) hS (fun r15 X1 h1 H locs hq hR hS => ?_)
    obtain ⟨F16, M16, e1, e2, hw⟩ := hq
    rw [e1, e2] at hR
    refine lv_if_ne (tgt := 18) hx hb dX6_headers_13 (by decide) (fun c17 => ?_) (fun c17 => ?_)
    · have hw := hw.2 c17
      refine lv_aload_n hx hb dX6_headers_18 rfl (lv_at hl 0 rfl) ?_
      refine lv_aload_n hx hb dX6_headers_19 rfl (lv_at hl 0 rfl) ?_
      refine x_get (ci := 5) (Cn := RX6) (T := TX6) (N := 55) (v := .int (F16 27)) C (hR.rdX 0 rfl) rfl in_X6 27 (by decide) q1206 (fun _ h9 => h9) rfl dX6_headers_20 ?_
      refine x_calli0 (x_runV (n := 1) (As := [.int (F16 27)]) C hR hS (kX6_slotOf l D N0 gp ad XF _ (F16 27) F16 M16 _ hw) (lw_V q1427 q1429 qs55 q104 q1430) rfl rfl (by decide +kernel) ⟨Nat.le_of_ble_eq_true rfl, Nat.le_of_ble_eq_true rfl⟩ (x_recv C (hR.rdX 0 rfl) rfl) rfl hl.1 rfl (Nat.le_of_ble_eq_true rfl) dX6_headers_23 ⟨Nat.le_refl _, Nat.le_refl _⟩) hS (fun r18 X1 h1 H locs hq hR hS => ?_)
      obtain ⟨e1, e2, hw⟩ := hq
      rw [e1, e2] at hR
      refine lv_istore_n (lv' := [(1, .int r18), (0, .ref (ad 1000))]) hx hb dX6_headers_26 rfl hl (by decide) rfl (fun ls hl => ?_)
      refine lv_aload_n hx hb dX6_headers_27 rfl (lv_at hl 1 rfl) ?_
      refine x_get (ci := 5) (Cn := RX6) (T := TX6) (N := 55) (v := .int (F16 27)) C (hR.rdX 0 rfl) rfl in_X6 27 (by decide) q1206 (fun _ h9 => h9) rfl dX6_headers_28 ?_
      refine lv_aload_n hx hb dX6_headers_31 rfl (lv_at hl 1 rfl) ?_
      refine x_get (ci := 5) (Cn := RX6) (T := TX6) (N := 55) (v := .int (F16 47)) C (hR.rdX 0 rfl) rfl in_X6 47 (by decide) q1226 (fun _ h9 => h9) rfl dX6_headers_32 ?_
      refine lv_icmp_gt (tgt := 54) hx hb dX6_headers_35 (by decide) (fun c19 => ?_) (fun c19 => ?_)
      · have hw := hw.1 c19
        exact kX6_headers_b54 C hR hS (lv_sub hl [1] rfl) hw
      · have hw := hw.2 c19
        refine lv_iload_n hx hb dX6_headers_38 rfl (lv_at hl 0 rfl) ?_
        refine lv_iconst (v := -1) hx hb dX6_headers_39 (by decide) ?_
        refine lv_icmp_eq (tgt := 52) hx hb dX6_headers_40 (by decide) (fun c20 => ?_) (fun c20 => ?_)
        · have hw := hw.1 c20
          exact kX6_headers_b52 C hR hS (lv_sub hl [] rfl) hw
        · have hw := hw.2 c20
          refine lv_aload_n hx hb dX6_headers_43 rfl (lv_at hl 1 rfl) ?_
          refine x_get (ci := 5) (Cn := RX6) (T := TX6) (N := 55) (v := .ref (ad 18)) C (hR.rdX 0 rfl) rfl in_X6 18 (by decide) q1197 (fun _ h9 => h9) rfl dX6_headers_44 ?_
          refine lv_iload_n hx hb dX6_headers_47 rfl (lv_at hl 0 rfl) ?_
          obtain ⟨b21, hw⟩ := hw
          refine x_zald (n := 4) (f := (M16 18)) C (hR.rdX 15 rfl) b21 dX6_headers_48 ?_
          refine lv_if_eq (tgt := 54) hx hb dX6_headers_49 (by decide) (fun c22 => ?_) (fun c22 => ?_)
          · have hw := hw.1 c22
            exact kX6_headers_b54 C hR hS (lv_sub hl [1] rfl) hw
          · have hw := hw.2 c22
            exact kX6_headers_b52 C hR hS (lv_sub hl [] rfl) hw
    · have hw := hw.1 c17
      exact kX6_headers_b16 C hR hS (lv_sub hl [] rfl) hw
/-- PageServerModel.end(I)V -/
abbrev rmX6_end : Room := { frames := 1, cells := 0, slots := 0, locals := 23 }
section
variable {p : Program} {l : Launch} {e : Env} {s : State} {m : MethodId} {args : Array Value} {below : List Frame} {meth : Method} {c : Code} {D : va_G} {N0 : Nat} {gp : Nat → Nat} {ad : Nat → Nat} {XF : x_X} {h : x_H}
def wX6_end_b18 (post : (Nat → Int32) → (Nat → Nat → Int32) → Prop) (p1 : Int32) (F : (Nat → Int32)) (M : (Nat → Nat → Int32)) : Prop :=
  post F M
theorem kX6_end_b18 {post : (Nat → Int32) → (Nat → Nat → Int32) → Prop} {p1 : Int32} (C : x_C p s m args meth c cX6_end 3 none RX6 D N0 gp) {F : (Nat → Int32)} {M : (Nat → Nat → Int32)} {H : Heap} {locs : List Loc} {ls : Array Slot} (hR : x_R D s N0 (fixM ad F M ++ XF) h H) (hS : va_S (x_A N0) s.heap H locs) (hl : lv_has ls 3 []) (hw : wX6_end_b18 post p1 F M) : W p l e rmX6_end s m args below meth c H locs 0 0 (MQ below (x_Qc D N0 (x_Vv (qMv ad XF h post))) args s 0 0 (x_A N0)) (F0 m 18 ls []) := by
  obtain ⟨⟨hx, hb, hml, hown, hts⟩, hr, hlocks, hG, hN⟩ := id C
  unfold wX6_end_b18 at hw
  exact x_endv C hR hS ⟨rfl, ⟨_, _, rfl, rfl, hw⟩⟩ (Nat.le_refl _) (Nat.le_refl _) dX6_end_18
end
def wX6_end (post : (Nat → Int32) → (Nat → Nat → Int32) → Prop) (p1 : Int32) (F : (Nat → Int32)) (M : (Nat → Nat → Int32)) : Prop :=
  wX6_slotOf (fun r4 => (r4 = (-1) → wX6_end_b18 post p1 F M) ∧ (¬ r4 = (-1) → vp_in r4 4 ∧ wX6_end_b18 post p1 F (va_up M 12 (upd (M 12) r4.toNatClampNeg 0)))) p1 F M
theorem kX6_end (l : Launch) (D : va_G) (N0 : Nat) (gp : Nat → Nat) (ad : Nat → Nat) (XF : x_X) (h : x_H) (p1 : Int32) (F : (Nat → Int32)) (M : (Nat → Nat → Int32)) (post : (Nat → Int32) → (Nat → Nat → Int32) → Prop) (hw : wX6_end post p1 F M) : Met l yX6_end (ws_ yX6_end cX6_end 3 none) rmX6_end (x_Pc D N0 gp (fixM ad F M ++ XF) h [.ref (ad 1000), .int p1]) (x_Qc D N0 (x_Vv (qMv ad XF h post))) 0 0 (x_A N0) := by
  refine x_start (lv := [(0, .ref (ad 1000)), (1, .int p1)]) (by decide) rfl (Nat.le_of_ble_eq_true rfl) rfl ?_
  intro p e s m below meth c C hR ls hl
  have hS : va_S (x_A N0) s.heap s.heap [] := va_S.rf
  obtain ⟨⟨hx, hb, hml, hown, hts⟩, hr, hlocks, hG, hN⟩ := id C
  unfold wX6_end at hw
  refine lv_aload_n hx hb dX6_end_0 rfl (lv_at hl 0 rfl) ?_
  refine lv_iload_n hx hb dX6_end_1 rfl (lv_at hl 1 rfl) ?_
  refine x_calli0 (x_runV (n := 1) (As := [.int p1]) C hR hS (kX6_slotOf l D N0 gp ad XF _ p1 F M _ hw) (lw_V q1427 q1429 qs55 q104 q1430) rfl rfl (by decide +kernel) ⟨Nat.le_of_ble_eq_true rfl, Nat.le_of_ble_eq_true rfl⟩ (x_recv C (hR.rdX 0 rfl) rfl) rfl hl.1 rfl (Nat.le_of_ble_eq_true rfl) dX6_end_2 ⟨Nat.le_refl _, Nat.le_refl _⟩) hS (fun r4 X1 h1 H locs hq hR hS => ?_)
  obtain ⟨e1, e2, hw⟩ := hq
  rw [e1, e2] at hR
  refine lv_istore_n (lv' := [(2, .int r4), (0, .ref (ad 1000)), (1, .int p1)]) hx hb dX6_end_5 rfl hl (by decide) rfl (fun ls hl => ?_)
  refine lv_iload_n hx hb dX6_end_6 rfl (lv_at hl 0 rfl) ?_
  refine lv_iconst (v := -1) hx hb dX6_end_7 (by decide) ?_
  refine lv_icmp_eq (tgt := 18) hx hb dX6_end_8 (by decide) (fun c5 => ?_) (fun c5 => ?_)
  · have hw := hw.1 c5
    exact kX6_end_b18 C hR hS (lv_sub hl [] rfl) hw
  · have hw := hw.2 c5
    refine lv_aload_n hx hb dX6_end_11 rfl (lv_at hl 1 rfl) ?_
    refine x_get (ci := 5) (Cn := RX6) (T := TX6) (N := 55) (v := .ref (ad 12)) C (hR.rdX 0 rfl) rfl in_X6 12 (by decide) q1191 (fun _ h9 => h9) rfl dX6_end_12 ?_
    refine lv_iload_n hx hb dX6_end_15 rfl (lv_at hl 0 rfl) ?_
    refine lv_iconst (v := 0) hx hb dX6_end_16 (by decide) ?_
    obtain ⟨b6, hw⟩ := hw
    refine x_iastX (n := 4) (f := (M 12)) C hR hS 9 rfl b6 (sM_a12 ..) dX6_end_17 (fun H locs hR hS => ?_)
    exact kX6_end_b18 C hR hS (lv_sub hl [] rfl) hw
