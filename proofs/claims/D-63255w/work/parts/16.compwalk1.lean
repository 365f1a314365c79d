/-! the walks of PageServer and its parts, printed by gen/walk.py -/
set_option maxHeartbeats 4000000
set_option maxRecDepth 100000
/-- PageServer$Table.begin()V -/
abbrev rmX2_begin : Room := { frames := 1, cells := 0, slots := 0, locals := 23 }
section
variable {p : Program} {l : Launch} {e : Env} {s : State} {m : MethodId} {args : Array Value} {below : List Frame} {meth : Method} {c : Code} {D : va_G} {N0 : Nat} {gp : Nat → Nat} {ad : Nat → Nat} {XF : x_X}
end
def wX2_begin (post : (Nat → Int32) → (Nat → Nat → Int32) → x_H → Prop) (ad : Nat → Nat)  (F : (Nat → Int32)) (M : (Nat → Nat → Int32)) (h : x_H) : Prop :=
  ∃ (t6 : Nat) (fs7 : List Value), h (ad 101) = some (t6, .inr (7, fs7)) ∧ wJ2_clear (fun h5 => post (upd F 102 24) M h5) (ad 101) h
theorem kX2_begin (l : Launch) (D : va_G) (N0 : Nat) (gp : Nat → Nat) (ad : Nat → Nat) (XF : x_X)  (F : (Nat → Int32)) (M : (Nat → Nat → Int32)) (h : x_H) (post : (Nat → Int32) → (Nat → Nat → Int32) → x_H → Prop) (hw : wX2_begin post ad F M h) : Met l yX2_begin (ws_ yX2_begin cX2_begin 1 none) rmX2_begin (x_Pc D N0 gp (fixC ad F M ++ XF) h [.ref (ad 3)]) (x_Qc D N0 (x_Vv (qCv ad XF post))) 0 0 (x_A N0) := by
  refine x_start (lv := [(0, .ref (ad 3))]) (by decide) rfl (Nat.le_of_ble_eq_true rfl) rfl ?_
  intro p e s m below meth c C hR ls hl
  have hS : va_S (x_A N0) s.heap s.heap [] := va_S.rf
  obtain ⟨⟨hx, hb, hml, hown, hts⟩, hr, hlocks, hG, hN⟩ := id C
  unfold wX2_begin at hw
  refine lv_aload_n hx hb dX2_begin_0 rfl (lv_at hl 0 rfl) ?_
  refine x_get (ci := 1) (Cn := RX2) (T := TX2) (N := 3) (v := .ref (ad 101)) C (hR.rdX 1 rfl) rfl in_X2 1 (by decide) q246 (fun _ h9 => h9) rfl dX2_begin_1 ?_
  obtain ⟨t6, fs7, he8, hw⟩ := hw
  refine x_callv0 (x_runV (n := 0) (As := []) C hR hS (kJ2_clear l D N0 gp _ (ad 101) h _ hw) (lw_V q381 q382 q383 q88 q384) rfl rfl (by decide +kernel) ⟨Nat.le_of_ble_eq_true rfl, Nat.le_of_ble_eq_true rfl⟩ (x_recv C (hR.rdH he8) rfl) rfl hl.1 rfl (Nat.le_of_ble_eq_true rfl) dX2_begin_4 ⟨Nat.le_refl _, Nat.le_refl _⟩) hS (fun X1 h5 H locs hq hR hS => ?_)
  clear hw
  obtain ⟨e1, hw⟩ := hq
  rw [e1] at hR
  refine lv_aload_n hx hb dX2_begin_7 rfl (lv_at hl 0 rfl) ?_
  refine lv_bipush (v := 24) hx hb dX2_begin_8 (by decide) ?_
  refine x_putX (ci := 1) (Cn := RX2) (T := TX2) (N := 3) (v := .int 24) C hR hS 1 rfl rfl in_X2 tyX2_ok nmX2 2 (by decide) q248 (fun _ h9 => h9) rfl rfl rfl (Nat.le_of_ble_eq_true rfl) (sC_f102 ..) dX2_begin_10 (fun H locs hR hS => ?_)
  exact x_endv C hR hS ⟨rfl, ⟨_, _, rfl, hw⟩⟩ (Nat.le_refl _) (Nat.le_refl _) dX2_begin_13
/-- PageServer.say(I)V -/
abbrev rmX1_say : Room := { frames := 0, cells := 0, slots := 0, locals := 0 }
section
variable {p : Program} {l : Launch} {e : Env} {s : State} {m : MethodId} {args : Array Value} {below : List Frame} {meth : Method} {c : Code} {D : va_G} {N0 : Nat} {gp : Nat → Nat} {ad : Nat → Nat} {XF : x_X}
end
def wX1_say (post : (Nat → Int32) → (Nat → Nat → Int32) → x_H → Prop) (ad : Nat → Nat) (p1 : Int32) (F : (Nat → Int32)) (M : (Nat → Nat → Int32)) (h : x_H) : Prop :=
  vp_in (F 26) 1200 ∧ post (upd F 26 ((F 26) + 1)) (va_up M 25 (upd (M 25) (F 26).toNatClampNeg (vp_nar .byte p1.toInt8.toInt32))) h
theorem kX1_say (l : Launch) (D : va_G) (N0 : Nat) (gp : Nat → Nat) (ad : Nat → Nat) (XF : x_X) (p1 : Int32) (F : (Nat → Int32)) (M : (Nat → Nat → Int32)) (h : x_H) (post : (Nat → Int32) → (Nat → Nat → Int32) → x_H → Prop) (hw : wX1_say post ad p1 F M h) : Met l yX1_say (ws_ yX1_say cX1_say 2 none) rmX1_say (x_Pc D N0 gp (fixC ad F M ++ XF) h [.ref (ad 1000), .int p1]) (x_Qc D N0 (x_Vv (qCv ad XF post))) 0 0 (x_A N0) := by
  refine x_start (lv := [(0, .ref (ad 1000)), (1, .int p1)]) (by decide) rfl (Nat.le_of_ble_eq_true rfl) rfl ?_
  intro p e s m below meth c C hR ls hl
  have hS : va_S (x_A N0) s.heap s.heap [] := va_S.rf
  obtain ⟨⟨hx, hb, hml, hown, hts⟩, hr, hlocks, hG, hN⟩ := id C
  unfold wX1_say at hw
  refine lv_aload_n hx hb dX1_say_0 rfl (lv_at hl 0 rfl) ?_
  refine x_get (ci := 0) (Cn := RX1) (T := TX1) (N := 27) (v := .ref (ad 25)) C (hR.rdX 0 rfl) rfl in_X1 25 (by decide) q418 (fun _ h9 => h9) rfl dX1_say_1 ?_
  refine lv_aload_n hx hb dX1_say_4 rfl (lv_at hl 0 rfl) ?_
  refine x_get (ci := 0) (Cn := RX1) (T := TX1) (N := 27) (v := .int (F 26)) C (hR.rdX 0 rfl) rfl in_X1 26 (by decide) q419 (fun _ h9 => h9) rfl dX1_say_5 ?_
  refine lv_iload_n hx hb dX1_say_8 rfl (lv_at hl 1 rfl) ?_
  refine lv_i2b hx hb dX1_say_9 rfl ?_
  obtain ⟨b2, hw⟩ := hw
  refine x_bastX (n := 1200) (f := (M 25)) C hR hS 4 rfl b2 (sC_a25 ..) dX1_say_10 (fun H locs hR hS => ?_)
  refine lv_aload_n hx hb dX1_say_11 rfl (lv_at hl 0 rfl) ?_
  refine lv_dup hx hb dX1_say_12 rfl ?_
  refine x_get (ci := 0) (Cn := RX1) (T := TX1) (N := 27) (v := .int (F 26)) C (hR.rdX 0 rfl) rfl in_X1 26 (by decide) q419 (fun _ h9 => h9) rfl dX1_say_13 ?_
  refine lv_iconst (v := 1) hx hb dX1_say_16 (by decide) ?_
  refine lv_iadd hx hb dX1_say_17 ?_
  refine x_putX (ci := 0) (Cn := RX1) (T := TX1) (N := 27) (v := .int ((F 26) + 1)) C hR hS 0 rfl rfl in_X1 tyX1_ok nmX1 26 (by decide) q419 (fun _ h9 => h9) rfl rfl rfl (Nat.le_of_ble_eq_true rfl) (sC_f26 ..) dX1_say_18 (fun H locs hR hS => ?_)
  exact x_endv C hR hS ⟨rfl, ⟨_, _, rfl, hw⟩⟩ (Nat.le_refl _) (Nat.le_refl _) dX1_say_21
/-- PageServer.head(IIII)V -/
abbrev rmX1_head : Room := { frames := 1, cells := 0, slots := 0, locals := 21 }
section
variable {p : Program} {l : Launch} {e : Env} {s : State} {m : MethodId} {args : Array Value} {below : List Frame} {meth : Method} {c : Code} {D : va_G} {N0 : Nat} {gp : Nat → Nat} {ad : Nat → Nat} {XF : x_X}
end
def wX1_head (post : (Nat → Int32) → (Nat → Nat → Int32) → x_H → Prop) (ad : Nat → Nat) (p1 : Int32) (p2 : Int32) (p3 : Int32) (p4 : Int32) (F : (Nat → Int32)) (M : (Nat → Nat → Int32)) (h : x_H) : Prop :=
  wX1_say (fun F9 M9 h10 => wX1_say (fun F11 M11 h12 => wX1_say (fun F13 M13 h14 => wX1_say (fun F15 M15 h16 => post F15 M15 h16) ad p4 F13 M13 h14) ad p3 F11 M11 h12) ad p2 F9 M9 h10) ad p1 F M h
theorem kX1_head (l : Launch) (D : va_G) (N0 : Nat) (gp : Nat → Nat) (ad : Nat → Nat) (XF : x_X) (p1 : Int32) (p2 : Int32) (p3 : Int32) (p4 : Int32) (F : (Nat → Int32)) (M : (Nat → Nat → Int32)) (h : x_H) (post : (Nat → Int32) → (Nat → Nat → Int32) → x_H → Prop) (hw : wX1_head post ad p1 p2 p3 p4 F M h) : Met l yX1_head (ws_ yX1_head cX1_head 5 none) rmX1_head (x_Pc D N0 gp (fixC ad F M ++ XF) h [.ref (ad 1000), .int p1, .int p2, .int p3, .int p4]) (x_Qc D N0 (x_Vv (qCv ad XF post))) 0 0 (x_A N0) := by
  refine x_start (lv := [(0, .ref (ad 1000)), (1, .int p1), (2, .int p2), (3, .int p3), (4, .int p4)]) (by decide) rfl (Nat.le_of_ble_eq_true rfl) rfl ?_
  intro p e s m below meth c C hR ls hl
  have hS : va_S (x_A N0) s.heap s.heap [] := va_S.rf
  obtain ⟨⟨hx, hb, hml, hown, hts⟩, hr, hlocks, hG, hN⟩ := id C
  unfold wX1_head at hw
  refine lv_aload_n hx hb dX1_head_0 rfl (lv_at hl 0 rfl) ?_
  refine lv_iload_n hx hb dX1_head_1 rfl (lv_at hl 1 rfl) ?_
  refine x_callv0 (x_runV (n := 1) (As := [.int p1]) C hR hS (kX1_say l D N0 gp ad XF p1 F M h _ hw) (lw_V q389 q391 qs5 q85 q392) rfl rfl (by decide +kernel) ⟨Nat.le_of_ble_eq_true rfl, Nat.le_of_ble_eq_true rfl⟩ (x_recv C (hR.rdX 0 rfl) rfl) rfl hl.1 rfl (Nat.le_of_ble_eq_true rfl) dX1_head_2 ⟨Nat.le_refl _, Nat.le_refl _⟩) hS (fun X1 h10 H locs hq hR hS => ?_)
  clear hw
  obtain ⟨F9, M9, e1, hw⟩ := hq
  rw [e1] at hR
  refine lv_aload_n hx hb dX1_head_5 rfl (lv_at hl 0 rfl) ?_
  refine lv_iload_n hx hb dX1_head_6 rfl (lv_at hl 2 rfl) ?_
  refine x_callv0 (x_runV (n := 1) (As := [.int p2]) C hR hS (kX1_say l D N0 gp ad XF p2 F9 M9 h10 _ hw) (lw_V q389 q391 qs5 q85 q392) rfl rfl (by decide +kernel) ⟨Nat.le_of_ble_eq_true rfl, Nat.le_of_ble_eq_true rfl⟩ (x_recv C (hR.rdX 0 rfl) rfl) rfl hl.1 rfl (Nat.le_of_ble_eq_true rfl) dX1_head_7 ⟨Nat.le_refl _, Nat.le_refl _⟩) hS (fun X1 h12 H locs hq hR hS => ?_)
  clear hw
  obtain ⟨F11, M11, e1, hw⟩ := hq
  rw [e1] at hR
  refine lv_aload_n hx hb dX1_head_10 rfl (lv_at hl 0 rfl) ?_
  refine lv_iload_n hx hb dX1_head_11 rfl (lv_at hl 3 rfl) ?_
  refine x_callv0 (x_runV (n := 1) (As := [.int p3]) C hR hS (kX1_say l D N0 gp ad XF p3 F11 M11 h12 _ hw) (lw_V q389 q391 qs5 q85 q392) rfl rfl (by decide +kernel) ⟨Nat.le_of_ble_eq_true rfl, Nat.le_of_ble_eq_true rfl⟩ (x_recv C (hR.rdX 0 rfl) rfl) rfl hl.1 rfl (Nat.le_of_ble_eq_true rfl) dX1_head_12 ⟨Nat.le_refl _, Nat.le_refl _⟩) hS (fun X1 h14 H locs hq hR hS => ?_)
  clear hw
  obtain ⟨F13, M13, e1, hw⟩ := hq
  rw [e1] at hR
  refine lv_aload_n hx hb dX1_head_15 rfl (lv_at hl 0 rfl) ?_
  refine lv_iload hx hb dX1_head_16 (lv_at hl 4 rfl) ?_
  refine x_callv0 (x_runV (n := 1) (As := [.int p4]) C hR hS (kX1_say l D N0 gp ad XF p4 F13 M13 h14 _ hw) (lw_V q389 q391 qs5 q85 q392) rfl rfl (by decide +kernel) ⟨Nat.le_of_ble_eq_true rfl, Nat.le_of_ble_eq_true rfl⟩ (x_recv C (hR.rdX 0 rfl) rfl) rfl hl.1 rfl (Nat.le_of_ble_eq_true rfl) dX1_head_18 ⟨Nat.le_refl _, Nat.le_refl _⟩) hS (fun X1 h16 H locs hq hR hS => ?_)
  clear hw
  obtain ⟨F15, M15, e1, hw⟩ := hq
  rw [e1] at hR
  exact x_endv C hR hS ⟨rfl, ⟨_, _, rfl, hw⟩⟩ (Nat.le_refl _) (Nat.le_refl _) dX1_head_21
/-- PageServer.restart()V -/
abbrev rmX1_restart (mc0 ms0 : Nat) : Room := { frames := 7, cells := mc0, slots := ms0, locals := 171 }
section
variable {p : Program} {l : Launch} {e : Env} {s : State} {m : MethodId} {args : Array Value} {below : List Frame} {meth : Method} {c : Code} {D : va_G} {N0 : Nat} {gp : Nat → Nat} {ad : Nat → Nat} {XF : x_X} {mc0 ms0 : Nat}
def wX1_restart_b32 (post : (Nat → Int32) → (Nat → Nat → Int32) → x_H → Prop) (gp : Nat → Nat) (ad : Nat → Nat)  (F : (Nat → Int32)) (M : (Nat → Nat → Int32)) (h : x_H) (mc : Nat) (ms : Nat) : Prop :=
  wX2_begin (fun F57 M57 h58 => wX1_head (fun F59 M59 h60 => wX1_say (fun F61 M61 h62 => wX1_say (fun F63 M63 h64 => post F63 M63 h64) ad 4 F61 M61 h62) ad 3 F59 M59 h60) ad 2 4 0 0 (upd (upd (upd (upd (upd (upd (upd (upd (upd (upd (upd (upd F57 7 0) 8 0) 15 1) 16 (-1)) 202 0) 18 0) 19 0) 21 0) 22 100) 23 40) 24 64) 26 0) M57 h58) ad F M h
theorem kX1_restart_b32 {post : (Nat → Int32) → (Nat → Nat → Int32) → x_H → Prop} (C : x_C p s m args meth c cX1_restart 1 none RX1 D N0 gp) {F : (Nat → Int32)} {M : (Nat → Nat → Int32)} {h : x_H} {mc : Nat} {ms : Nat} {k n : Nat} {H : Heap} {locs : List Loc} {ls : Array Slot} (hR : x_R D s N0 (fixC ad F M ++ XF) h H) (hS : va_S (x_A N0) s.heap H locs) (hk : k + mc ≤ mc0) (hn : n + ms ≤ ms0) (hl : lv_has ls 1 [(0, .ref (ad 1000))]) (hw : wX1_restart_b32 post gp ad F M h mc ms) : W p l e (rmX1_restart mc0 ms0) s m args below meth c H locs k n (MQ below (x_Qc D N0 (x_Vv (qCv ad XF post))) args s mc0 ms0 (x_A N0)) (F0 m 32 ls []) := by
  obtain ⟨⟨hx, hb, hml, hown, hts⟩, hr, hlocks, hG, hN⟩ := id C
  unfold wX1_restart_b32 at hw
  refine lv_aload_n hx hb dX1_restart_32 rfl (lv_at hl 0 rfl) ?_
  refine x_get (ci := 0) (Cn := RX1) (T := TX1) (N := 27) (v := .ref (ad 3)) C (hR.rdX 0 rfl) rfl in_X1 3 (by decide) q396 (fun _ h9 => h9) rfl dX1_restart_33 ?_
  refine x_callv0 (x_runV (n := 0) (As := []) C hR hS (kX2_begin l D N0 gp ad XF F M h _ hw) (lw_V q377 q378 q379 q89 q380) rfl rfl (by decide +kernel) ⟨Nat.le_of_ble_eq_true rfl, Nat.le_of_ble_eq_true rfl⟩ (x_recv C (hR.rdX 1 rfl) rfl) rfl hl.1 rfl (Nat.le_of_ble_eq_true rfl) dX1_restart_36 ⟨x_bud0 hk, x_bud0 hn⟩) hS (fun X1 h58 H locs hq hR hS => ?_)
  clear hw
  obtain ⟨F57, M57, e1, hw⟩ := hq
  rw [e1] at hR
  refine lv_aload_n hx hb dX1_restart_39 rfl (lv_at hl 0 rfl) ?_
  refine lv_iconst (v := 0) hx hb dX1_restart_40 (by decide) ?_
  refine x_putX (ci := 0) (Cn := RX1) (T := TX1) (N := 27) (v := .int 0) C hR hS 0 rfl rfl in_X1 tyX1_ok nmX1 7 (by decide) q400 (fun _ h9 => h9) rfl rfl rfl (Nat.le_of_ble_eq_true rfl) (sC_f7 ..) dX1_restart_41 (fun H locs hR hS => ?_)
  refine lv_aload_n hx hb dX1_restart_44 rfl (lv_at hl 0 rfl) ?_
  refine lv_iconst (v := 0) hx hb dX1_restart_45 (by decide) ?_
  refine x_putX (ci := 0) (Cn := RX1) (T := TX1) (N := 27) (v := .int 0) C hR hS 0 rfl rfl in_X1 tyX1_ok nmX1 8 (by decide) q401 (fun _ h9 => h9) rfl rfl rfl (Nat.le_of_ble_eq_true rfl) (sC_f8 ..) dX1_restart_46 (fun H locs hR hS => ?_)
  refine lv_aload_n hx hb dX1_restart_49 rfl (lv_at hl 0 rfl) ?_
  refine lv_iconst (v := 1) hx hb dX1_restart_50 (by decide) ?_
  refine x_putX (ci := 0) (Cn := RX1) (T := TX1) (N := 27) (v := .int 1) C hR hS 0 rfl rfl in_X1 tyX1_ok nmX1 15 (by decide) q408 (fun _ h9 => h9) rfl rfl rfl (Nat.le_of_ble_eq_true rfl) (sC_f15 ..) dX1_restart_51 (fun H locs hR hS => ?_)
  refine lv_aload_n hx hb dX1_restart_54 rfl (lv_at hl 0 rfl) ?_
  refine lv_iconst (v := -1) hx hb dX1_restart_55 (by decide) ?_
  refine x_putX (ci := 0) (Cn := RX1) (T := TX1) (N := 27) (v := .int (-1)) C hR hS 0 rfl rfl in_X1 tyX1_ok nmX1 16 (by decide) q409 (fun _ h9 => h9) rfl rfl rfl (Nat.le_of_ble_eq_true rfl) (sC_f16 ..) dX1_restart_56 (fun H locs hR hS => ?_)
  refine lv_aload_n hx hb dX1_restart_59 rfl (lv_at hl 0 rfl) ?_
  refine x_get (ci := 0) (Cn := RX1) (T := TX1) (N := 27) (v := .ref (ad 4)) C (hR.rdX 0 rfl) rfl in_X1 4 (by decide) q397 (fun _ h9 => h9) rfl dX1_restart_60 ?_
  refine lv_iconst (v := 0) hx hb dX1_restart_63 (by decide) ?_
  refine x_putXN (ci := 3) (Cn := RX4) (T := TX4) (N := 5) (v := .int 0) C hR hS 2 rfl rfl in_X4 tyX4_ok nmX4 2 (by decide) (x_nest C q299 rfl) (fun _ h9 => h9) rfl rfl rfl (Nat.le_of_ble_eq_true rfl) (sC_f202 ..) dX1_restart_64 (fun H locs hR hS => ?_)
  refine lv_aload_n hx hb dX1_restart_67 rfl (lv_at hl 0 rfl) ?_
  refine lv_iconst (v := 0) hx hb dX1_restart_68 (by decide) ?_
  refine x_putX (ci := 0) (Cn := RX1) (T := TX1) (N := 27) (v := .int 0) C hR hS 0 rfl rfl in_X1 tyX1_ok nmX1 18 (by decide) q411 (fun _ h9 => h9) rfl rfl rfl (Nat.le_of_ble_eq_true rfl) (sC_f18 ..) dX1_restart_69 (fun H locs hR hS => ?_)
  refine lv_aload_n hx hb dX1_restart_72 rfl (lv_at hl 0 rfl) ?_
  refine lv_iconst (v := 0) hx hb dX1_restart_73 (by decide) ?_
  refine x_putX (ci := 0) (Cn := RX1) (T := TX1) (N := 27) (v := .int 0) C hR hS 0 rfl rfl in_X1 tyX1_ok nmX1 19 (by decide) q412 (fun _ h9 => h9) rfl rfl rfl (Nat.le_of_ble_eq_true rfl) (sC_f19 ..) dX1_restart_74 (fun H locs hR hS => ?_)
  refine lv_aload_n hx hb dX1_restart_77 rfl (lv_at hl 0 rfl) ?_
  refine lv_iconst (v := 0) hx hb dX1_restart_78 (by decide) ?_
  refine x_putX (ci := 0) (Cn := RX1) (T := TX1) (N := 27) (v := .int 0) C hR hS 0 rfl rfl in_X1 tyX1_ok nmX1 21 (by decide) q414 (fun _ h9 => h9) rfl rfl rfl (Nat.le_of_ble_eq_true rfl) (sC_f21 ..) dX1_restart_79 (fun H locs hR hS => ?_)
  refine lv_aload_n hx hb dX1_restart_82 rfl (lv_at hl 0 rfl) ?_
  refine lv_bipush (v := 100) hx hb dX1_restart_83 (by decide) ?_
  refine x_putX (ci := 0) (Cn := RX1) (T := TX1) (N := 27) (v := .int 100) C hR hS 0 rfl rfl in_X1 tyX1_ok nmX1 22 (by decide) q415 (fun _ h9 => h9) rfl rfl rfl (Nat.le_of_ble_eq_true rfl) (sC_f22 ..) dX1_restart_85 (fun H locs hR hS => ?_)
  refine lv_aload_n hx hb dX1_restart_88 rfl (lv_at hl 0 rfl) ?_
  refine lv_bipush (v := 40) hx hb dX1_restart_89 (by decide) ?_
  refine x_putX (ci := 0) (Cn := RX1) (T := TX1) (N := 27) (v := .int 40) C hR hS 0 rfl rfl in_X1 tyX1_ok nmX1 23 (by decide) q416 (fun _ h9 => h9) rfl rfl rfl (Nat.le_of_ble_eq_true rfl) (sC_f23 ..) dX1_restart_91 (fun H locs hR hS => ?_)
  refine lv_aload_n hx hb dX1_restart_94 rfl (lv_at hl 0 rfl) ?_
  refine lv_bipush (v := 64) hx hb dX1_restart_95 (by decide) ?_
  refine x_putX (ci := 0) (Cn := RX1) (T := TX1) (N := 27) (v := .int 64) C hR hS 0 rfl rfl in_X1 tyX1_ok nmX1 24 (by decide) q417 (fun _ h9 => h9) rfl rfl rfl (Nat.le_of_ble_eq_true rfl) (sC_f24 ..) dX1_restart_97 (fun H locs hR hS => ?_)
  refine lv_aload_n hx hb dX1_restart_100 rfl (lv_at hl 0 rfl) ?_
  refine lv_iconst (v := 0) hx hb dX1_restart_101 (by decide) ?_
  refine x_putX (ci := 0) (Cn := RX1) (T := TX1) (N := 27) (v := .int 0) C hR hS 0 rfl rfl in_X1 tyX1_ok nmX1 26 (by decide) q419 (fun _ h9 => h9) rfl rfl rfl (Nat.le_of_ble_eq_true rfl) (sC_f26 ..) dX1_restart_102 (fun H locs hR hS => ?_)
  refine lv_aload_n hx hb dX1_restart_105 rfl (lv_at hl 0 rfl) ?_
  refine lv_iconst (v := 2) hx hb dX1_restart_106 (by decide) ?_
  refine lv_iconst (v := 4) hx hb dX1_restart_107 (by decide) ?_
  refine lv_iconst (v := 0) hx hb dX1_restart_108 (by decide) ?_
  refine lv_iconst (v := 0) hx hb dX1_restart_109 (by decide) ?_
  refine x_callv0 (x_runV (n := 4) (As := [.int 2, .int 4, .int 0, .int 0]) C hR hS (kX1_head l D N0 gp ad XF 2 4 0 0 (upd (upd (upd (upd (upd (upd (upd (upd (upd (upd (upd (upd F57 7 0) 8 0) 15 1) 16 (-1)) 202 0) 18 0) 19 0) 21 0) 22 100) 23 40) 24 64) 26 0) M57 h58 _ hw) (lw_V q385 q387 qs4 q85 q388) rfl rfl (by decide +kernel) ⟨Nat.le_of_ble_eq_true rfl, Nat.le_of_ble_eq_true rfl⟩ (x_recv C (hR.rdX 0 rfl) rfl) rfl hl.1 rfl (Nat.le_of_ble_eq_true rfl) dX1_restart_110 ⟨x_bud0 hk, x_bud0 hn⟩) hS (fun X1 h60 H locs hq hR hS => ?_)
  clear hw
  obtain ⟨F59, M59, e1, hw⟩ := hq
  rw [e1] at hR
  refine lv_aload_n hx hb dX1_restart_113 rfl (lv_at hl 0 rfl) ?_
  refine lv_iconst (v := 3) hx hb dX1_restart_114 (by decide) ?_
  refine x_callv0 (x_runV (n := 1) (As := [.int 3]) C hR hS (kX1_say l D N0 gp ad XF 3 F59 M59 h60 _ hw) (lw_V q389 q391 qs5 q85 q392) rfl rfl (by decide +kernel) ⟨Nat.le_of_ble_eq_true rfl, Nat.le_of_ble_eq_true rfl⟩ (x_recv C (hR.rdX 0 rfl) rfl) rfl hl.1 rfl (Nat.le_of_ble_eq_true rfl) dX1_restart_115 ⟨x_bud0 hk, x_bud0 hn⟩) hS (fun X1 h62 H locs hq hR hS => ?_)
  clear hw
  obtain ⟨F61, M61, e1, hw⟩ := hq
  rw [e1] at hR
  refine lv_aload_n hx hb dX1_restart_118 rfl (lv_at hl 0 rfl) ?_
  refine lv_iconst (v := 4) hx hb dX1_restart_119 (by decide) ?_
  refine x_callv0 (x_runV (n := 1) (As := [.int 4]) C hR hS (kX1_say l D N0 gp ad XF 4 F61 M61 h62 _ hw) (lw_V q389 q391 qs5 q85 q392) rfl rfl (by decide +kernel) ⟨Nat.le_of_ble_eq_true rfl, Nat.le_of_ble_eq_true rfl⟩ (x_recv C (hR.rdX 0 rfl) rfl) rfl hl.1 rfl (Nat.le_of_ble_eq_true rfl) dX1_restart_120 ⟨x_bud0 hk, x_bud0 hn⟩) hS (fun X1 h64 H locs hq hR hS => ?_)
  clear hw
  obtain ⟨F63, M63, e1, hw⟩ := hq
  rw [e1] at hR
  exact x_endv C hR hS ⟨rfl, ⟨_, _, rfl, hw⟩⟩ (x_le hk) (x_le hn) dX1_restart_123
def tX1_restart_b0 (post : (Nat → Int32) → (Nat → Nat → Int32) → x_H → Prop) (K0 : (Nat → Int32) → (Nat → Nat → Int32) → x_H → Nat → Nat → Prop) (gp : Nat → Nat) (ad : Nat → Nat)  (F : (Nat → Int32)) (M : (Nat → Nat → Int32)) (h : x_H) (mc : Nat) (ms : Nat) : Prop :=
  ∃ (t35 : Nat) (fs36 : List Value), h (ad 1) = some (t35, .inr (7, fs36)) ∧ wJ2_size (fun r34 => (r34 ≤ 0 → wX1_restart_b32 post gp ad F M h mc ms) ∧ (¬ r34 ≤ 0 → ∃ (t41 : Nat) (fs42 : List Value), h (ad 1) = some (t41, .inr (7, fs42)) ∧ wJ2_remove (fun r39 h40 => ∃ a44 : Nat, r39 = some a44 ∧ ∃ (t45 : Nat) (fs46 : List Value), h40 a44 = some (t45, .inr (4, fs46)) ∧ ∃ (t54 : Nat) (fs55 : List Value), h40 (ad 2) = some (t54, .inr (7, fs55)) ∧ ∃ ca49 cb50 mc51 ms52 : Nat, ca49 + mc51 ≤ mc ∧ cb50 + ms52 ≤ ms ∧ wJ2_add (fun r48 h53 => K0 F M h53 mc51 ms52) gp (ad 2) a44 h40 ca49 cb50) (ad 1) 0 h)) (ad 1) h
def wX1_restart_b0 (post : (Nat → Int32) → (Nat → Nat → Int32) → x_H → Prop) (gp : Nat → Nat) (ad : Nat → Nat)  : Nat → (Nat → Int32) → (Nat → Nat → Int32) → x_H → Nat → Nat → Prop
  | 0 => fun _ _ _ _ _ => False
  | n + 1 => fun F M h mc ms => tX1_restart_b0 post (wX1_restart_b0 post gp ad n) gp ad F M h mc ms
theorem kX1_restart_b0 {post : (Nat → Int32) → (Nat → Nat → Int32) → x_H → Prop} (C : x_C p s m args meth c cX1_restart 1 none RX1 D N0 gp) : ∀ (nn : Nat) (F : (Nat → Int32)) (M : (Nat → Nat → Int32)) (h : x_H) (mc : Nat) (ms : Nat) (k n : Nat) (H : Heap) (locs : List Loc) (ls : Array Slot), x_R D s N0 (fixC ad F M ++ XF) h H → va_S (x_A N0) s.heap H locs → k + mc ≤ mc0 → n + ms ≤ ms0 → lv_has ls 1 [(0, .ref (ad 1000))] → wX1_restart_b0 post gp ad nn F M h mc ms → W p l e (rmX1_restart mc0 ms0) s m args below meth c H locs k n (MQ below (x_Qc D N0 (x_Vv (qCv ad XF post))) args s mc0 ms0 (x_A N0)) (F0 m 0 ls []) := by
  obtain ⟨⟨hx, hb, hml, hown, hts⟩, hr, hlocks, hG, hN⟩ := id C
  intro nn
  induction nn with
  | zero =>
    intro F M h mc ms k n H locs ls hR hS hk hn hl hw
    exact False.elim hw
  | succ nn ih =>
    intro F M h mc ms k n H locs ls hR hS hk hn hl hw
    have hK0 := ih
    replace hw : tX1_restart_b0 post (wX1_restart_b0 post gp ad nn) gp ad F M h mc ms := hw
    unfold tX1_restart_b0 at hw
    refine lv_aload_n hx hb dX1_restart_0 rfl (lv_at hl 0 rfl) ?_
    refine x_get (ci := 0) (Cn := RX1) (T := TX1) (N := 27) (v := .ref (ad 1)) C (hR.rdX 0 rfl) rfl in_X1 1 (by decide) q394 (fun _ h9 => h9) rfl dX1_restart_1 ?_
    obtain ⟨t35, fs36, he37, hw⟩ := hw
    refine x_calli0 (x_runV (n := 0) (As := []) C hR hS (kJ2_size l D N0 gp _ (ad 1) h _ hw) (lw_V q358 q359 q360 q88 q361) rfl rfl (by decide +kernel) ⟨Nat.le_of_ble_eq_true rfl, Nat.le_of_ble_eq_true rfl⟩ (x_recv C (hR.rdH he37) rfl) rfl hl.1 rfl (Nat.le_of_ble_eq_true rfl) dX1_restart_4 ⟨x_bud0 hk, x_bud0 hn⟩) hS (fun r34 X1 h1 H locs hq hR hS => ?_)
    clear hw
    obtain ⟨e1, e2, hw⟩ := hq
    rw [e1, e2] at hR
    refine lv_if_le (tgt := 32) hx hb dX1_restart_7 (by decide) (fun c38 => ?_) (fun c38 => ?_)
    · replace hw := hw.1 c38
      exact kX1_restart_b32 C hR hS hk hn (lv_sub hl [0] rfl) hw
    · replace hw := hw.2 c38
      refine lv_aload_n hx hb dX1_restart_10 rfl (lv_at hl 0 rfl) ?_
      refine x_get (ci := 0) (Cn := RX1) (T := TX1) (N := 27) (v := .ref (ad 2)) C (hR.rdX 0 rfl) rfl in_X1 2 (by decide) q395 (fun _ h9 => h9) rfl dX1_restart_11 ?_
      refine lv_aload_n hx hb dX1_restart_14 rfl (lv_at hl 0 rfl) ?_
      refine x_get (ci := 0) (Cn := RX1) (T := TX1) (N := 27) (v := .ref (ad 1)) C (hR.rdX 0 rfl) rfl in_X1 1 (by decide) q394 (fun _ h9 => h9) rfl dX1_restart_15 ?_
      refine lv_iconst (v := 0) hx hb dX1_restart_18 (by decide) ?_
      obtain ⟨t41, fs42, he43, hw⟩ := hw
      refine x_calla0 (x_runV (n := 1) (As := [.int 0]) C hR hS (kJ2_remove l D N0 gp _ (ad 1) 0 h _ hw) (lw_V q362 q363 q364 q88 q365) rfl rfl (by decide +kernel) ⟨Nat.le_of_ble_eq_true rfl, Nat.le_of_ble_eq_true rfl⟩ (x_recv C (hR.rdH he43) rfl) rfl hl.1 rfl (Nat.le_of_ble_eq_true rfl) dX1_restart_19 ⟨x_bud0 hk, x_bud0 hn⟩) hS (fun r39 X1 h40 H locs hq hR hS => ?_)
      clear hw
      obtain ⟨e1, hw⟩ := hq
      rw [e1] at hR
      obtain ⟨a44, ea44, hw⟩ := hw
      rw [ea44]
      obtain ⟨t45, fs46, he47, hw⟩ := hw
      refine x_castH (ci := 4) (Cn := RX5) (T := TX5) (N := 9) C hR he47 rfl q313 dX1_restart_22 ?_
      obtain ⟨t54, fs55, he56, hw⟩ := hw
      obtain ⟨ca49, cb50, mc51, ms52, hca49, hcb50, hw⟩ := hw
      refine x_calli (x_runV (n := 1) (As := [.ref a44]) C hR hS (kJ2_add l D N0 gp _ (ad 2) a44 h40 ca49 cb50 _ hw) (lw_V q353 q177 q178 q88 q179) rfl rfl (by decide +kernel) ⟨Nat.le_of_ble_eq_true rfl, Nat.le_of_ble_eq_true rfl⟩ (x_recv C (hR.rdH he56) rfl) rfl hl.1 rfl (Nat.le_of_ble_eq_true rfl) dX1_restart_25 ⟨x_bud hk hca49, x_bud hn hcb50⟩) hS (fun r48 X1 h53 H locs hq hR hS => ?_)
      clear hw
      obtain ⟨e1, hw⟩ := hq
      rw [e1] at hR
      have hk := x_budN hk hca49
      have hn := x_budN hn hcb50
      refine lv_pop hx hb dX1_restart_28 rfl ?_
      refine lv_goto (tgt := 0) hx hb dX1_restart_29 (by decide) ?_
      exact hK0 _ _ _ _ _ _ _ _ _ _ hR hS hk hn (lv_sub hl [0] rfl) hw
end
def wX1_restart (post : (Nat → Int32) → (Nat → Nat → Int32) → x_H → Prop) (gp : Nat → Nat) (ad : Nat → Nat)  (F : (Nat → Int32)) (M : (Nat → Nat → Int32)) (h : x_H) (mc : Nat) (ms : Nat) : Prop :=
  ∃ n33 : Nat, wX1_restart_b0 post gp ad n33 F M h mc ms
theorem kX1_restart (l : Launch) (D : va_G) (N0 : Nat) (gp : Nat → Nat) (ad : Nat → Nat) (XF : x_X)  (F : (Nat → Int32)) (M : (Nat → Nat → Int32)) (h : x_H) (mc : Nat) (ms : Nat) (post : (Nat → Int32) → (Nat → Nat → Int32) → x_H → Prop) (hw : wX1_restart post gp ad F M h mc ms) : Met l yX1_restart (ws_ yX1_restart cX1_restart 1 none) (rmX1_restart mc ms) (x_Pc D N0 gp (fixC ad F M ++ XF) h [.ref (ad 1000)]) (x_Qc D N0 (x_Vv (qCv ad XF post))) mc ms (x_A N0) := by
  refine x_start (lv := [(0, .ref (ad 1000))]) (by decide) rfl (Nat.le_of_ble_eq_true rfl) rfl ?_
  intro p e s m below meth c C hR ls hl
  have hS : va_S (x_A N0) s.heap s.heap [] := va_S.rf
  obtain ⟨⟨hx, hb, hml, hown, hts⟩, hr, hlocks, hG, hN⟩ := id C
  unfold wX1_restart at hw
  have hk : 0 + mc ≤ mc := Nat.le_of_eq (Nat.zero_add _)
  have hn : 0 + ms ≤ ms := Nat.le_of_eq (Nat.zero_add _)
  obtain ⟨n33, hw⟩ := hw
  exact kX1_restart_b0 C n33 _ _ _ _ _ _ _ _ _ _ hR hS hk hn (lv_sub hl [0] rfl) hw
/-- PageServer.outside(III)Z -/
abbrev rmX1_outside : Room := { frames := 0, cells := 0, slots := 0, locals := 0 }
section
variable {p : Program} {l : Launch} {e : Env} {s : State} {m : MethodId} {args : Array Value} {below : List Frame} {meth : Method} {c : Code} {D : va_G} {N0 : Nat} {gp : Nat → Nat} {X : x_X} {h : x_H}
def wX1_outside_b15 (post : Int32 → Prop) (p0 : Int32) (p1 : Int32) (p2 : Int32) (s0 : Int32) : Prop :=
  narrow .boolean (.int s0) = .int s0 ∧ post s0 
theorem kX1_outside_b15 {post : Int32 → Prop} {p0 : Int32} {p1 : Int32} {p2 : Int32} (C : x_C p s m args meth c cX1_outside 3 (some .boolean) RX1 D N0 gp) {s0 : Int32} {H : Heap} {locs : List Loc} {ls : Array Slot} (hR : x_R D s N0 X h H) (hS : va_S (x_A N0) s.heap H locs) (hl : lv_has ls 3 []) (hw : wX1_outside_b15 post p0 p1 p2 s0) : W p l e rmX1_outside s m args below meth c H locs 0 0 (MQ below (x_Qc D N0 (x_Vi (qPi X h post))) args s 0 0 (x_A N0)) (F0 m 15 ls [.int s0]) := by
  obtain ⟨⟨hx, hb, hml, hown, hts⟩, hr, hlocks, hG, hN⟩ := id C
  unfold wX1_outside_b15 at hw
  obtain ⟨hz, hw⟩ := hw
  exact x_endz C hR hS hz ⟨_, rfl, ⟨rfl, rfl, hw⟩⟩ (Nat.le_refl _) (Nat.le_refl _) dX1_outside_15
def wX1_outside_b10 (post : Int32 → Prop) (p0 : Int32) (p1 : Int32) (p2 : Int32) : Prop :=
  wX1_outside_b15 post p0 p1 p2 1
theorem kX1_outside_b10 {post : Int32 → Prop} {p0 : Int32} {p1 : Int32} {p2 : Int32} (C : x_C p s m args meth c cX1_outside 3 (some .boolean) RX1 D N0 gp) {H : Heap} {locs : List Loc} {ls : Array Slot} (hR : x_R D s N0 X h H) (hS : va_S (x_A N0) s.heap H locs) (hl : lv_has ls 3 []) (hw : wX1_outside_b10 post p0 p1 p2 ) : W p l e rmX1_outside s m args below meth c H locs 0 0 (MQ below (x_Qc D N0 (x_Vi (qPi X h post))) args s 0 0 (x_A N0)) (F0 m 10 ls []) := by
  obtain ⟨⟨hx, hb, hml, hown, hts⟩, hr, hlocks, hG, hN⟩ := id C
  unfold wX1_outside_b10 at hw
  refine lv_iconst (v := 1) hx hb dX1_outside_10 (by decide) ?_
  refine lv_goto (tgt := 15) hx hb dX1_outside_11 (by decide) ?_
  exact kX1_outside_b15 C hR hS (lv_sub hl [] rfl) hw
end
def wX1_outside (post : Int32 → Prop) (p0 : Int32) (p1 : Int32) (p2 : Int32) : Prop :=
  (p0 < p1 → wX1_outside_b10 post p0 p1 p2 ) ∧ (¬ p0 < p1 → (p0 ≤ p2 → wX1_outside_b15 post p0 p1 p2 0) ∧ (¬ p0 ≤ p2 → wX1_outside_b10 post p0 p1 p2 ))
theorem kX1_outside (l : Launch) (D : va_G) (N0 : Nat) (gp : Nat → Nat) (X : x_X) (h : x_H) (p0 : Int32) (p1 : Int32) (p2 : Int32) (post : Int32 → Prop) (hw : wX1_outside post p0 p1 p2 ) : Met l yX1_outside (ws_ yX1_outside cX1_outside 3 (some .boolean)) rmX1_outside (x_Pc D N0 gp X h [.int p0, .int p1, .int p2]) (x_Qc D N0 (x_Vi (qPi X h post))) 0 0 (x_A N0) := by
  refine x_start (lv := [(0, .int p0), (1, .int p1), (2, .int p2)]) (by decide) rfl (Nat.le_of_ble_eq_true rfl) rfl ?_
  intro p e s m below meth c C hR ls hl
  have hS : va_S (x_A N0) s.heap s.heap [] := va_S.rf
  obtain ⟨⟨hx, hb, hml, hown, hts⟩, hr, hlocks, hG, hN⟩ := id C
  unfold wX1_outside at hw
  refine lv_iload_n hx hb dX1_outside_0 rfl (lv_at hl 0 rfl) ?_
  refine lv_iload_n hx hb dX1_outside_1 rfl (lv_at hl 1 rfl) ?_
  refine lv_icmp_lt (tgt := 10) hx hb dX1_outside_2 (by decide) (fun c3 => ?_) (fun c3 => ?_)
  · replace hw := hw.1 c3
    exact kX1_outside_b10 C hR hS (lv_sub hl [] rfl) hw
  · replace hw := hw.2 c3
    refine lv_iload_n hx hb dX1_outside_5 rfl (lv_at hl 0 rfl) ?_
    refine lv_iload_n hx hb dX1_outside_6 rfl (lv_at hl 2 rfl) ?_
    refine lv_icmp_le (tgt := 14) hx hb dX1_outside_7 (by decide) (fun c4 => ?_) (fun c4 => ?_)
    · replace hw := hw.1 c4
      refine lv_iconst (v := 0) hx hb dX1_outside_14 (by decide) ?_
      exact kX1_outside_b15 C hR hS (lv_sub hl [] rfl) hw
    · replace hw := hw.2 c4
      exact kX1_outside_b10 C hR hS (lv_sub hl [] rfl) hw
/-- PageServer.goAway()V -/
abbrev rmX1_goAway : Room := { frames := 2, cells := 0, slots := 0, locals := 45 }
section
variable {p : Program} {l : Launch} {e : Env} {s : State} {m : MethodId} {args : Array Value} {below : List Frame} {meth : Method} {c : Code} {D : va_G} {N0 : Nat} {gp : Nat → Nat} {ad : Nat → Nat} {XF : x_X}
end
def wX1_goAway (post : (Nat → Int32) → (Nat → Nat → Int32) → x_H → Prop) (ad : Nat → Nat)  (F : (Nat → Int32)) (M : (Nat → Nat → Int32)) (h : x_H) : Prop :=
  wX1_head (fun F7 M7 h8 => wX1_say (fun F9 M9 h10 => wX1_say (fun F11 M11 h12 => post (upd F11 19 (F11 20)) M11 h12) ad (F9 20) F9 M9 h10) ad (F7 18) F7 M7 h8) ad 2 7 0 0 F M h
theorem kX1_goAway (l : Launch) (D : va_G) (N0 : Nat) (gp : Nat → Nat) (ad : Nat → Nat) (XF : x_X)  (F : (Nat → Int32)) (M : (Nat → Nat → Int32)) (h : x_H) (post : (Nat → Int32) → (Nat → Nat → Int32) → x_H → Prop) (hw : wX1_goAway post ad F M h) : Met l yX1_goAway (ws_ yX1_goAway cX1_goAway 1 none) rmX1_goAway (x_Pc D N0 gp (fixC ad F M ++ XF) h [.ref (ad 1000)]) (x_Qc D N0 (x_Vv (qCv ad XF post))) 0 0 (x_A N0) := by
  refine x_start (lv := [(0, .ref (ad 1000))]) (by decide) rfl (Nat.le_of_ble_eq_true rfl) rfl ?_
  intro p e s m below meth c C hR ls hl
  have hS : va_S (x_A N0) s.heap s.heap [] := va_S.rf
  obtain ⟨⟨hx, hb, hml, hown, hts⟩, hr, hlocks, hG, hN⟩ := id C
  unfold wX1_goAway at hw
  refine lv_aload_n hx hb dX1_goAway_0 rfl (lv_at hl 0 rfl) ?_
  refine lv_iconst (v := 2) hx hb dX1_goAway_1 (by decide) ?_
  refine lv_bipush (v := 7) hx hb dX1_goAway_2 (by decide) ?_
  refine lv_iconst (v := 0) hx hb dX1_goAway_4 (by decide) ?_
  refine lv_iconst (v := 0) hx hb dX1_goAway_5 (by decide) ?_
  refine x_callv0 (x_runV (n := 4) (As := [.int 2, .int 7, .int 0, .int 0]) C hR hS (kX1_head l D N0 gp ad XF 2 7 0 0 F M h _ hw) (lw_V q385 q387 qs4 q85 q388) rfl rfl (by decide +kernel) ⟨Nat.le_of_ble_eq_true rfl, Nat.le_of_ble_eq_true rfl⟩ (x_recv C (hR.rdX 0 rfl) rfl) rfl hl.1 rfl (Nat.le_of_ble_eq_true rfl) dX1_goAway_6 ⟨Nat.le_refl _, Nat.le_refl _⟩) hS (fun X1 h8 H locs hq hR hS => ?_)
  clear hw
  obtain ⟨F7, M7, e1, hw⟩ := hq
  rw [e1] at hR
  refine lv_aload_n hx hb dX1_goAway_9 rfl (lv_at hl 0 rfl) ?_
  refine lv_aload_n hx hb dX1_goAway_10 rfl (lv_at hl 0 rfl) ?_
  refine x_get (ci := 0) (Cn := RX1) (T := TX1) (N := 27) (v := .int (F7 18)) C (hR.rdX 0 rfl) rfl in_X1 18 (by decide) q411 (fun _ h9 => h9) rfl dX1_goAway_11 ?_
  refine x_callv0 (x_runV (n := 1) (As := [.int (F7 18)]) C hR hS (kX1_say l D N0 gp ad XF (F7 18) F7 M7 h8 _ hw) (lw_V q389 q391 qs5 q85 q392) rfl rfl (by decide +kernel) ⟨Nat.le_of_ble_eq_true rfl, Nat.le_of_ble_eq_true rfl⟩ (x_recv C (hR.rdX 0 rfl) rfl) rfl hl.1 rfl (Nat.le_of_ble_eq_true rfl) dX1_goAway_14 ⟨Nat.le_refl _, Nat.le_refl _⟩) hS (fun X1 h10 H locs hq hR hS => ?_)
  clear hw
  obtain ⟨F9, M9, e1, hw⟩ := hq
  rw [e1] at hR
  refine lv_aload_n hx hb dX1_goAway_17 rfl (lv_at hl 0 rfl) ?_
  refine lv_aload_n hx hb dX1_goAway_18 rfl (lv_at hl 0 rfl) ?_
  refine x_get (ci := 0) (Cn := RX1) (T := TX1) (N := 27) (v := .int (F9 20)) C (hR.rdX 0 rfl) rfl in_X1 20 (by decide) q413 (fun _ h9 => h9) rfl dX1_goAway_19 ?_
  refine x_callv0 (x_runV (n := 1) (As := [.int (F9 20)]) C hR hS (kX1_say l D N0 gp ad XF (F9 20) F9 M9 h10 _ hw) (lw_V q389 q391 qs5 q85 q392) rfl rfl (by decide +kernel) ⟨Nat.le_of_ble_eq_true rfl, Nat.le_of_ble_eq_true rfl⟩ (x_recv C (hR.rdX 0 rfl) rfl) rfl hl.1 rfl (Nat.le_of_ble_eq_true rfl) dX1_goAway_22 ⟨Nat.le_refl _, Nat.le_refl _⟩) hS (fun X1 h12 H locs hq hR hS => ?_)
  clear hw
  obtain ⟨F11, M11, e1, hw⟩ := hq
  rw [e1] at hR
  refine lv_aload_n hx hb dX1_goAway_25 rfl (lv_at hl 0 rfl) ?_
  refine lv_aload_n hx hb dX1_goAway_26 rfl (lv_at hl 0 rfl) ?_
  refine x_get (ci := 0) (Cn := RX1) (T := TX1) (N := 27) (v := .int (F11 20)) C (hR.rdX 0 rfl) rfl in_X1 20 (by decide) q413 (fun _ h9 => h9) rfl dX1_goAway_27 ?_
  refine x_putX (ci := 0) (Cn := RX1) (T := TX1) (N := 27) (v := .int (F11 20)) C hR hS 0 rfl rfl in_X1 tyX1_ok nmX1 19 (by decide) q412 (fun _ h9 => h9) rfl rfl rfl (Nat.le_of_ble_eq_true rfl) (sC_f19 ..) dX1_goAway_30 (fun H locs hR hS => ?_)
  exact x_endv C hR hS ⟨rfl, ⟨_, _, rfl, hw⟩⟩ (Nat.le_refl _) (Nat.le_refl _) dX1_goAway_33
/-- PageServer.has(I)Z -/
abbrev rmX1_has : Room := { frames := 0, cells := 0, slots := 0, locals := 0 }
section
variable {p : Program} {l : Launch} {e : Env} {s : State} {m : MethodId} {args : Array Value} {below : List Frame} {meth : Method} {c : Code} {D : va_G} {N0 : Nat} {gp : Nat → Nat} {ad : Nat → Nat} {XF : x_X}
def wX1_has_b14 (post : Int32 → Prop) (ad : Nat → Nat) (p1 : Int32) (F : (Nat → Int32)) (M : (Nat → Nat → Int32)) (h : x_H) (s0 : Int32) : Prop :=
  narrow .boolean (.int s0) = .int s0 ∧ post s0 
theorem kX1_has_b14 {post : Int32 → Prop} {p1 : Int32} {F : (Nat → Int32)} {M : (Nat → Nat → Int32)} {h : x_H} (C : x_C p s m args meth c cX1_has 2 (some .boolean) RX1 D N0 gp) {s0 : Int32} {H : Heap} {locs : List Loc} {ls : Array Slot} (hR : x_R D s N0 (fixC ad F M ++ XF) h H) (hS : va_S (x_A N0) s.heap H locs) (hl : lv_has ls 2 []) (hw : wX1_has_b14 post ad p1 F M h s0) : W p l e rmX1_has s m args below meth c H locs 0 0 (MQ below (x_Qc D N0 (x_Vi (qPi (fixC ad F M ++ XF) h post))) args s 0 0 (x_A N0)) (F0 m 14 ls [.int s0]) := by
  obtain ⟨⟨hx, hb, hml, hown, hts⟩, hr, hlocks, hG, hN⟩ := id C
  unfold wX1_has_b14 at hw
  obtain ⟨hz, hw⟩ := hw
  exact x_endz C hR hS hz ⟨_, rfl, ⟨rfl, rfl, hw⟩⟩ (Nat.le_refl _) (Nat.le_refl _) dX1_has_14
end
def wX1_has (post : Int32 → Prop) (ad : Nat → Nat) (p1 : Int32) (F : (Nat → Int32)) (M : (Nat → Nat → Int32)) (h : x_H) : Prop :=
  (((F 10) &&& p1) = 0 → wX1_has_b14 post ad p1 F M h 0) ∧ (¬ ((F 10) &&& p1) = 0 → wX1_has_b14 post ad p1 F M h 1)
theorem kX1_has (l : Launch) (D : va_G) (N0 : Nat) (gp : Nat → Nat) (ad : Nat → Nat) (XF : x_X) (p1 : Int32) (F : (Nat → Int32)) (M : (Nat → Nat → Int32)) (h : x_H) (post : Int32 → Prop) (hw : wX1_has post ad p1 F M h ) : Met l yX1_has (ws_ yX1_has cX1_has 2 (some .boolean)) rmX1_has (x_Pc D N0 gp (fixC ad F M ++ XF) h [.ref (ad 1000), .int p1]) (x_Qc D N0 (x_Vi (qPi (fixC ad F M ++ XF) h post))) 0 0 (x_A N0) := by
  refine x_start (lv := [(0, .ref (ad 1000)), (1, .int p1)]) (by decide) rfl (Nat.le_of_ble_eq_true rfl) rfl ?_
  intro p e s m below meth c C hR ls hl
  have hS : va_S (x_A N0) s.heap s.heap [] := va_S.rf
  obtain ⟨⟨hx, hb, hml, hown, hts⟩, hr, hlocks, hG, hN⟩ := id C
  unfold wX1_has at hw
  refine lv_aload_n hx hb dX1_has_0 rfl (lv_at hl 0 rfl) ?_
  refine x_get (ci := 0) (Cn := RX1) (T := TX1) (N := 27) (v := .int (F 10)) C (hR.rdX 0 rfl) rfl in_X1 10 (by decide) q403 (fun _ h9 => h9) rfl dX1_has_1 ?_
  refine lv_iload_n hx hb dX1_has_4 rfl (lv_at hl 1 rfl) ?_
  refine lv_iand hx hb dX1_has_5 ?_
  refine lv_if_eq (tgt := 13) hx hb dX1_has_6 (by decide) (fun c2 => ?_) (fun c2 => ?_)
  · replace hw := hw.1 c2
    refine lv_iconst (v := 0) hx hb dX1_has_13 (by decide) ?_
    exact kX1_has_b14 C hR hS (lv_sub hl [] rfl) hw
  · replace hw := hw.2 c2
    refine lv_iconst (v := 1) hx hb dX1_has_9 (by decide) ?_
    refine lv_goto (tgt := 14) hx hb dX1_has_10 (by decide) ?_
    exact kX1_has_b14 C hR hS (lv_sub hl [] rfl) hw
/-- PageServer.must(ZI)V -/
abbrev rmX1_must (mc0 ms0 : Nat) : Room := { frames := 6, cells := mc0, slots := ms0, locals := 100 }
section
variable {p : Program} {l : Launch} {e : Env} {s : State} {m : MethodId} {args : Array Value} {below : List Frame} {meth : Method} {c : Code} {D : va_G} {N0 : Nat} {gp : Nat → Nat} {ad : Nat → Nat} {XF : x_X} {mc0 ms0 : Nat}
end
def wX1_must (post : (Nat → Int32) → (Nat → Nat → Int32) → x_H → Prop) (postX : String → (Nat → Int32) → (Nat → Nat → Int32) → x_H → Prop) (ad : Nat → Nat) (p1 : Int32) (p2 : Int32) (F : (Nat → Int32)) (M : (Nat → Nat → Int32)) (h : x_H) (mc : Nat) (ms : Nat) : Prop :=
  (p1 = 0 → 1 ≤ mc ∧ 6 ≤ ms ∧ postX "java/lang/IllegalStateException" (upd F 20 p2) M h) ∧ (¬ p1 = 0 → post F M h)
theorem kX1_must (l : Launch) (D : va_G) (N0 : Nat) (gp : Nat → Nat) (ad : Nat → Nat) (XF : x_X) (p1 : Int32) (p2 : Int32) (F : (Nat → Int32)) (M : (Nat → Nat → Int32)) (h : x_H) (mc : Nat) (ms : Nat) (post : (Nat → Int32) → (Nat → Nat → Int32) → x_H → Prop) (postX : String → (Nat → Int32) → (Nat → Nat → Int32) → x_H → Prop) (hlt : l.stackTraces = false) (hw : wX1_must post postX ad p1 p2 F M h mc ms) : vx_Met l yX1_must (ws_ yX1_must cX1_must 3 none) (rmX1_must mc ms) (x_Pc D N0 gp (fixC ad F M ++ XF) h [.ref (ad 1000), .int p1, .int p2]) (x_Qc D N0 (x_Vv (qCv ad XF post))) (x_XC D N0 (qXC ad XF postX)) mc ms (x_A N0) := by
  refine x_startX (lv := [(0, .ref (ad 1000)), (1, .int p1), (2, .int p2)]) (by decide) rfl (Nat.le_of_ble_eq_true rfl) rfl ?_
  intro p e s m below meth c C hxt hR ls hl
  have hS : va_S (x_A N0) s.heap s.heap [] := va_S.rf
  obtain ⟨⟨hx, hb, hml, hown, hts⟩, hr, hlocks, hG, hN⟩ := id C
  unfold wX1_must at hw
  have hk : 0 + mc ≤ mc := Nat.le_of_eq (Nat.zero_add _)
  have hn : 0 + ms ≤ ms := Nat.le_of_eq (Nat.zero_add _)
  refine lv_iload_n hx hb dX1_must_0 rfl (lv_at hl 1 rfl) ?_
  refine lv_if_eq (tgt := 5) hx hb dX1_must_1 (by decide) (fun c4 => ?_) (fun c4 => ?_)
  · replace hw := hw.1 c4
    refine lv_aload_n hx hb dX1_must_5 rfl (lv_at hl 0 rfl) ?_
    refine lv_iload_n hx hb dX1_must_6 rfl (lv_at hl 2 rfl) ?_
    refine x_putX (ci := 0) (Cn := RX1) (T := TX1) (N := 27) (v := .int p2) C hR hS 0 rfl rfl in_X1 tyX1_ok nmX1 20 (by decide) q413 (fun _ h9 => h9) rfl rfl rfl (Nat.le_of_ble_eq_true rfl) (sC_f20 ..) dX1_must_7 (fun H locs hR hS => ?_)
    obtain ⟨g5, g6, hw⟩ := hw
    exact x_throw C hlt (fun x hx => (hxt x hx).elim) hR hS _ x_at_ISE x_ag_ISE x_ao_ISE (by decide +kernel) q498 q112 hl.1 dX1_must_10 dX1_must_13 dX1_must_14 dX1_must_17 (Nat.le_of_ble_eq_true rfl) (Nat.le_of_ble_eq_true rfl) (x_bud1 hk g5) (x_bud1 hn g6) ⟨_, _, rfl, hw⟩ (x_bud1 hk g5) (x_bud1 hn g6)
  · replace hw := hw.2 c4
    exact vx_ret (x_endv C hR hS ⟨rfl, ⟨_, _, rfl, hw⟩⟩ (x_le hk) (x_le hn) dX1_must_4)
/-- PageServer.isIdle(I)Z -/
abbrev rmX1_isIdle : Room := { frames := 0, cells := 0, slots := 0, locals := 0 }
section
variable {p : Program} {l : Launch} {e : Env} {s : State} {m : MethodId} {args : Array Value} {below : List Frame} {meth : Method} {c : Code} {D : va_G} {N0 : Nat} {gp : Nat → Nat} {ad : Nat → Nat} {XF : x_X}
def wX1_isIdle_b23 (post : Int32 → Prop) (ad : Nat → Nat) (p1 : Int32) (F : (Nat → Int32)) (M : (Nat → Nat → Int32)) (h : x_H) (s0 : Int32) : Prop :=
  narrow .boolean (.int s0) = .int s0 ∧ post s0 
theorem kX1_isIdle_b23 {post : Int32 → Prop} {p1 : Int32} {F : (Nat → Int32)} {M : (Nat → Nat → Int32)} {h : x_H} (C : x_C p s m args meth c cX1_isIdle 2 (some .boolean) RX1 D N0 gp) {s0 : Int32} {H : Heap} {locs : List Loc} {ls : Array Slot} (hR : x_R D s N0 (fixC ad F M ++ XF) h H) (hS : va_S (x_A N0) s.heap H locs) (hl : lv_has ls 2 []) (hw : wX1_isIdle_b23 post ad p1 F M h s0) : W p l e rmX1_isIdle s m args below meth c H locs 0 0 (MQ below (x_Qc D N0 (x_Vi (qPi (fixC ad F M ++ XF) h post))) args s 0 0 (x_A N0)) (F0 m 23 ls [.int s0]) := by
  obtain ⟨⟨hx, hb, hml, hown, hts⟩, hr, hlocks, hG, hN⟩ := id C
  unfold wX1_isIdle_b23 at hw
  obtain ⟨hz, hw⟩ := hw
  exact x_endz C hR hS hz ⟨_, rfl, ⟨rfl, rfl, hw⟩⟩ (Nat.le_refl _) (Nat.le_refl _) dX1_isIdle_23
def wX1_isIdle_b18 (post : Int32 → Prop) (ad : Nat → Nat) (p1 : Int32) (F : (Nat → Int32)) (M : (Nat → Nat → Int32)) (h : x_H) : Prop :=
  wX1_isIdle_b23 post ad p1 F M h 1
theorem kX1_isIdle_b18 {post : Int32 → Prop} {p1 : Int32} {F : (Nat → Int32)} {M : (Nat → Nat → Int32)} {h : x_H} (C : x_C p s m args meth c cX1_isIdle 2 (some .boolean) RX1 D N0 gp) {H : Heap} {locs : List Loc} {ls : Array Slot} (hR : x_R D s N0 (fixC ad F M ++ XF) h H) (hS : va_S (x_A N0) s.heap H locs) (hl : lv_has ls 2 []) (hw : wX1_isIdle_b18 post ad p1 F M h ) : W p l e rmX1_isIdle s m args below meth c H locs 0 0 (MQ below (x_Qc D N0 (x_Vi (qPi (fixC ad F M ++ XF) h post))) args s 0 0 (x_A N0)) (F0 m 18 ls []) := by
  obtain ⟨⟨hx, hb, hml, hown, hts⟩, hr, hlocks, hG, hN⟩ := id C
  unfold wX1_isIdle_b18 at hw
  refine lv_iconst (v := 1) hx hb dX1_isIdle_18 (by decide) ?_
  refine lv_goto (tgt := 23) hx hb dX1_isIdle_19 (by decide) ?_
  exact kX1_isIdle_b23 C hR hS (lv_sub hl [] rfl) hw
def wX1_isIdle_b22 (post : Int32 → Prop) (ad : Nat → Nat) (p1 : Int32) (F : (Nat → Int32)) (M : (Nat → Nat → Int32)) (h : x_H) : Prop :=
  wX1_isIdle_b23 post ad p1 F M h 0
theorem kX1_isIdle_b22 {post : Int32 → Prop} {p1 : Int32} {F : (Nat → Int32)} {M : (Nat → Nat → Int32)} {h : x_H} (C : x_C p s m args meth c cX1_isIdle 2 (some .boolean) RX1 D N0 gp) {H : Heap} {locs : List Loc} {ls : Array Slot} (hR : x_R D s N0 (fixC ad F M ++ XF) h H) (hS : va_S (x_A N0) s.heap H locs) (hl : lv_has ls 2 []) (hw : wX1_isIdle_b22 post ad p1 F M h ) : W p l e rmX1_isIdle s m args below meth c H locs 0 0 (MQ below (x_Qc D N0 (x_Vi (qPi (fixC ad F M ++ XF) h post))) args s 0 0 (x_A N0)) (F0 m 22 ls []) := by
  obtain ⟨⟨hx, hb, hml, hown, hts⟩, hr, hlocks, hG, hN⟩ := id C
  unfold wX1_isIdle_b22 at hw
  refine lv_iconst (v := 0) hx hb dX1_isIdle_22 (by decide) ?_
  exact kX1_isIdle_b23 C hR hS (lv_sub hl [] rfl) hw
end
def wX1_isIdle (post : Int32 → Prop) (ad : Nat → Nat) (p1 : Int32) (F : (Nat → Int32)) (M : (Nat → Nat → Int32)) (h : x_H) : Prop :=
  (p1 = 0 → wX1_isIdle_b22 post ad p1 F M h ) ∧ (¬ p1 = 0 → ((p1 - p1 / 2 * 2) = 0 → wX1_isIdle_b18 post ad p1 F M h ) ∧ (¬ (p1 - p1 / 2 * 2) = 0 → (p1 ≤ (F 18) → wX1_isIdle_b22 post ad p1 F M h ) ∧ (¬ p1 ≤ (F 18) → wX1_isIdle_b18 post ad p1 F M h )))
theorem kX1_isIdle (l : Launch) (D : va_G) (N0 : Nat) (gp : Nat → Nat) (ad : Nat → Nat) (XF : x_X) (p1 : Int32) (F : (Nat → Int32)) (M : (Nat → Nat → Int32)) (h : x_H) (post : Int32 → Prop) (hw : wX1_isIdle post ad p1 F M h ) : Met l yX1_isIdle (ws_ yX1_isIdle cX1_isIdle 2 (some .boolean)) rmX1_isIdle (x_Pc D N0 gp (fixC ad F M ++ XF) h [.ref (ad 1000), .int p1]) (x_Qc D N0 (x_Vi (qPi (fixC ad F M ++ XF) h post))) 0 0 (x_A N0) := by
  refine x_start (lv := [(0, .ref (ad 1000)), (1, .int p1)]) (by decide) rfl (Nat.le_of_ble_eq_true rfl) rfl ?_
  intro p e s m below meth c C hR ls hl
  have hS : va_S (x_A N0) s.heap s.heap [] := va_S.rf
  obtain ⟨⟨hx, hb, hml, hown, hts⟩, hr, hlocks, hG, hN⟩ := id C
  unfold wX1_isIdle at hw
  refine lv_iload_n hx hb dX1_isIdle_0 rfl (lv_at hl 1 rfl) ?_
  refine lv_if_eq (tgt := 22) hx hb dX1_isIdle_1 (by decide) (fun c4 => ?_) (fun c4 => ?_)
  · replace hw := hw.1 c4
    exact kX1_isIdle_b22 C hR hS (lv_sub hl [] rfl) hw
  · replace hw := hw.2 c4
    refine lv_iload_n hx hb dX1_isIdle_4 rfl (lv_at hl 1 rfl) ?_
    refine lv_iconst (v := 2) hx hb dX1_isIdle_5 (by decide) ?_
    refine lv_irem hx hb dX1_isIdle_6 (by decide) ?_
    refine lv_if_eq (tgt := 18) hx hb dX1_isIdle_7 (by decide) (fun c5 => ?_) (fun c5 => ?_)
    · replace hw := hw.1 c5
      exact kX1_isIdle_b18 C hR hS (lv_sub hl [] rfl) hw
    · replace hw := hw.2 c5
      refine lv_iload_n hx hb dX1_isIdle_10 rfl (lv_at hl 1 rfl) ?_
      refine lv_aload_n hx hb dX1_isIdle_11 rfl (lv_at hl 0 rfl) ?_
      refine x_get (ci := 0) (Cn := RX1) (T := TX1) (N := 27) (v := .int (F 18)) C (hR.rdX 0 rfl) rfl in_X1 18 (by decide) q411 (fun _ h9 => h9) rfl dX1_isIdle_12 ?_
      refine lv_icmp_le (tgt := 22) hx hb dX1_isIdle_15 (by decide) (fun c6 => ?_) (fun c6 => ?_)
      · replace hw := hw.1 c6
        exact kX1_isIdle_b22 C hR hS (lv_sub hl [] rfl) hw
      · replace hw := hw.2 c6
        exact kX1_isIdle_b18 C hR hS (lv_sub hl [] rfl) hw
/-- PageServer.byteAt(I)I -/
abbrev rmX1_byteAt : Room := { frames := 0, cells := 0, slots := 0, locals := 0 }
section
variable {p : Program} {l : Launch} {e : Env} {s : State} {m : MethodId} {args : Array Value} {below : List Frame} {meth : Method} {c : Code} {D : va_G} {N0 : Nat} {gp : Nat → Nat} {ad : Nat → Nat} {XF : x_X}
end
def wX1_byteAt (post : Int32 → Prop) (ad : Nat → Nat) (p1 : Int32) (F : (Nat → Int32)) (M : (Nat → Nat → Int32)) (h : x_H) : Prop :=
  vp_in ((4 : Int32) + p1) 204 ∧ post (((M 6) ((4 : Int32) + p1).toNatClampNeg) &&& 255) 
theorem kX1_byteAt (l : Launch) (D : va_G) (N0 : Nat) (gp : Nat → Nat) (ad : Nat → Nat) (XF : x_X) (p1 : Int32) (F : (Nat → Int32)) (M : (Nat → Nat → Int32)) (h : x_H) (post : Int32 → Prop) (hw : wX1_byteAt post ad p1 F M h ) : Met l yX1_byteAt (ws_ yX1_byteAt cX1_byteAt 2 (some .int)) rmX1_byteAt (x_Pc D N0 gp (fixC ad F M ++ XF) h [.ref (ad 1000), .int p1]) (x_Qc D N0 (x_Vi (qPi (fixC ad F M ++ XF) h post))) 0 0 (x_A N0) := by
  refine x_start (lv := [(0, .ref (ad 1000)), (1, .int p1)]) (by decide) rfl (Nat.le_of_ble_eq_true rfl) rfl ?_
  intro p e s m below meth c C hR ls hl
  have hS : va_S (x_A N0) s.heap s.heap [] := va_S.rf
  obtain ⟨⟨hx, hb, hml, hown, hts⟩, hr, hlocks, hG, hN⟩ := id C
  unfold wX1_byteAt at hw
  refine lv_aload_n hx hb dX1_byteAt_0 rfl (lv_at hl 0 rfl) ?_
  refine x_get (ci := 0) (Cn := RX1) (T := TX1) (N := 27) (v := .ref (ad 6)) C (hR.rdX 0 rfl) rfl in_X1 6 (by decide) q399 (fun _ h9 => h9) rfl dX1_byteAt_1 ?_
  refine lv_iconst (v := 4) hx hb dX1_byteAt_4 (by decide) ?_
  refine lv_iload_n hx hb dX1_byteAt_5 rfl (lv_at hl 1 rfl) ?_
  refine lv_iadd hx hb dX1_byteAt_6 ?_
  obtain ⟨b2, hw⟩ := hw
  refine x_bald (n := 204) (f := (M 6)) C (hR.rdX 3 rfl) b2 dX1_byteAt_7 ?_
  refine lv_sipush (v := 255) hx hb dX1_byteAt_8 (by decide) ?_
  refine lv_iand hx hb dX1_byteAt_11 ?_
  exact x_endi C hR hS ⟨_, rfl, ⟨rfl, rfl, hw⟩⟩ (Nat.le_refl _) (Nat.le_refl _) dX1_byteAt_12
/-- PageServer.unpad()V -/
abbrev rmX1_unpad (mc0 ms0 : Nat) : Room := { frames := 7, cells := mc0, slots := ms0, locals := 122 }
section
variable {p : Program} {l : Launch} {e : Env} {s : State} {m : MethodId} {args : Array Value} {below : List Frame} {meth : Method} {c : Code} {D : va_G} {N0 : Nat} {gp : Nat → Nat} {ad : Nat → Nat} {XF : x_X} {mc0 ms0 : Nat}
def wX1_unpad_b85 (post : (Nat → Int32) → (Nat → Nat → Int32) → x_H → Prop) (postX : String → (Nat → Int32) → (Nat → Nat → Int32) → x_H → Prop) (ad : Nat → Nat)  (F : (Nat → Int32)) (M : (Nat → Nat → Int32)) (h : x_H) (mc : Nat) (ms : Nat) (s0 : Int32) : Prop :=
  post (upd F 14 s0) M h
theorem kX1_unpad_b85 {post : (Nat → Int32) → (Nat → Nat → Int32) → x_H → Prop} {postX : String → (Nat → Int32) → (Nat → Nat → Int32) → x_H → Prop} (C : x_C p s m args meth c cX1_unpad 1 none RX1 D N0 gp) (hlt : l.stackTraces = false) (hxt : ∀ x ∈ c.exceptionTable.toList, False) {F : (Nat → Int32)} {M : (Nat → Nat → Int32)} {h : x_H} {mc : Nat} {ms : Nat} {s0 : Int32} {k n : Nat} {H : Heap} {locs : List Loc} {ls : Array Slot} (hR : x_R D s N0 (fixC ad F M ++ XF) h H) (hS : va_S (x_A N0) s.heap H locs) (hk : k + mc ≤ mc0) (hn : n + ms ≤ ms0) (hl : lv_has ls 1 []) (hw : wX1_unpad_b85 post postX ad F M h mc ms s0) : W p l e (rmX1_unpad mc0 ms0) s m args below meth c H locs k n (vx_MQ below (x_Qc D N0 (x_Vv (qCv ad XF post))) (x_XC D N0 (qXC ad XF postX)) args s mc0 ms0 (x_A N0)) (F0 m 85 ls [.int s0, .ref (ad 1000)]) := by
  obtain ⟨⟨hx, hb, hml, hown, hts⟩, hr, hlocks, hG, hN⟩ := id C
  unfold wX1_unpad_b85 at hw
  refine x_putX (ci := 0) (Cn := RX1) (T := TX1) (N := 27) (v := .int s0) C hR hS 0 rfl rfl in_X1 tyX1_ok nmX1 14 (by decide) q407 (fun _ h9 => h9) rfl rfl rfl (Nat.le_of_ble_eq_true rfl) (sC_f14 ..) dX1_unpad_85 (fun H locs hR hS => ?_)
  exact vx_ret (x_endv C hR hS ⟨rfl, ⟨_, _, rfl, hw⟩⟩ (x_le hk) (x_le hn) dX1_unpad_88)
def wX1_unpad_b56 (post : (Nat → Int32) → (Nat → Nat → Int32) → x_H → Prop) (postX : String → (Nat → Int32) → (Nat → Nat → Int32) → x_H → Prop) (ad : Nat → Nat)  (F : (Nat → Int32)) (M : (Nat → Nat → Int32)) (h : x_H) (mc : Nat) (ms : Nat) (s0 : Int32) : Prop :=
  ∃ ca21 cb22 mc23 ms24 : Nat, ca21 + mc23 ≤ mc ∧ cb22 + ms24 ≤ ms ∧ wX1_must (fun F25 M25 h26 => ((F25 13) = 0 → wX1_unpad_b85 post postX ad F25 M25 h26 mc23 ms24 (F25 12)) ∧ (¬ (F25 13) = 0 → wX1_byteAt (fun r28 => wX1_unpad_b85 post postX ad F25 M25 h26 mc23 ms24 ((F25 12) - r28)) ad 0 F25 M25 h26)) postX ad s0 1 F M h ca21 cb22
theorem kX1_unpad_b56 {post : (Nat → Int32) → (Nat → Nat → Int32) → x_H → Prop} {postX : String → (Nat → Int32) → (Nat → Nat → Int32) → x_H → Prop} (C : x_C p s m args meth c cX1_unpad 1 none RX1 D N0 gp) (hlt : l.stackTraces = false) (hxt : ∀ x ∈ c.exceptionTable.toList, False) {F : (Nat → Int32)} {M : (Nat → Nat → Int32)} {h : x_H} {mc : Nat} {ms : Nat} {s0 : Int32} {k n : Nat} {H : Heap} {locs : List Loc} {ls : Array Slot} (hR : x_R D s N0 (fixC ad F M ++ XF) h H) (hS : va_S (x_A N0) s.heap H locs) (hk : k + mc ≤ mc0) (hn : n + ms ≤ ms0) (hl : lv_has ls 1 [(0, .ref (ad 1000))]) (hw : wX1_unpad_b56 post postX ad F M h mc ms s0) : W p l e (rmX1_unpad mc0 ms0) s m args below meth c H locs k n (vx_MQ below (x_Qc D N0 (x_Vv (qCv ad XF post))) (x_XC D N0 (qXC ad XF postX)) args s mc0 ms0 (x_A N0)) (F0 m 56 ls [.int s0, .ref (ad 1000)]) := by
  obtain ⟨⟨hx, hb, hml, hown, hts⟩, hr, hlocks, hG, hN⟩ := id C
  unfold wX1_unpad_b56 at hw
  refine lv_iconst (v := 1) hx hb dX1_unpad_56 (by decide) ?_
  obtain ⟨ca21, cb22, mc23, ms24, hca21, hcb22, hw⟩ := hw
  refine x_callXv (x_runVX (n := 2) (As := [.int s0, .int 1]) C hR hS (kX1_must l D N0 gp ad XF s0 1 F M h ca21 cb22 _ _ hlt hw) (lw_V q507 q509 qs11 q85 q510) rfl rfl (by decide +kernel) ⟨Nat.le_of_ble_eq_true rfl, Nat.le_of_ble_eq_true rfl⟩ (x_recv C (hR.rdX 0 rfl) rfl) rfl hl.1 rfl (Nat.le_of_ble_eq_true rfl) dX1_unpad_57 ⟨x_bud hk hca21, x_bud hn hcb22⟩) hS (fun E9 ce9 q9 X9 h9 H9 locs9 hq9 hR9 hS9 hce9 hcv9 hcl9 => by obtain ⟨F9, M9, e9, hq9⟩ := hq9; rw [e9] at hR9; exact x_outX C hxt hR9 hS9 ⟨_, _, rfl, hq9⟩ hce9 hcv9 hcl9 (x_bud hk hca21) (x_bud hn hcb22)) (fun X1 h26 H locs hq hR hS => ?_)
  clear hw
  obtain ⟨F25, M25, e1, hw⟩ := hq
  rw [e1] at hR
  have hk := x_budN hk hca21
  have hn := x_budN hn hcb22
  refine lv_aload_n hx hb dX1_unpad_60 rfl (lv_at hl 0 rfl) ?_
  refine lv_aload_n hx hb dX1_unpad_61 rfl (lv_at hl 0 rfl) ?_
  refine x_get (ci := 0) (Cn := RX1) (T := TX1) (N := 27) (v := .int (F25 13)) C (hR.rdX 0 rfl) rfl in_X1 13 (by decide) q406 (fun _ h9 => h9) rfl dX1_unpad_62 ?_
  refine lv_if_ne (tgt := 75) hx hb dX1_unpad_65 (by decide) (fun c27 => ?_) (fun c27 => ?_)
  · replace hw := hw.2 c27
    refine lv_aload_n hx hb dX1_unpad_75 rfl (lv_at hl 0 rfl) ?_
    refine x_get (ci := 0) (Cn := RX1) (T := TX1) (N := 27) (v := .int (F25 12)) C (hR.rdX 0 rfl) rfl in_X1 12 (by decide) q405 (fun _ h9 => h9) rfl dX1_unpad_76 ?_
    refine lv_aload_n hx hb dX1_unpad_79 rfl (lv_at hl 0 rfl) ?_
    refine lv_iconst (v := 0) hx hb dX1_unpad_80 (by decide) ?_
    refine x_calli0 (x_runV (n := 1) (As := [.int 0]) C hR hS (kX1_byteAt l D N0 gp ad XF 0 F25 M25 h26 _ hw) (lw_V q586 q588 qs16 q85 q589) rfl rfl (by decide +kernel) ⟨Nat.le_of_ble_eq_true rfl, Nat.le_of_ble_eq_true rfl⟩ (x_recv C (hR.rdX 0 rfl) rfl) rfl hl.1 rfl (Nat.le_of_ble_eq_true rfl) dX1_unpad_81 ⟨x_bud0 hk, x_bud0 hn⟩) hS (fun r28 X1 h1 H locs hq hR hS => ?_)
    clear hw
    obtain ⟨e1, e2, hw⟩ := hq
    rw [e1, e2] at hR
    refine lv_isub hx hb dX1_unpad_84 ?_
    exact kX1_unpad_b85 C hlt hxt hR hS hk hn (lv_sub hl [] rfl) hw
  · replace hw := hw.1 c27
    refine lv_aload_n hx hb dX1_unpad_68 rfl (lv_at hl 0 rfl) ?_
    refine x_get (ci := 0) (Cn := RX1) (T := TX1) (N := 27) (v := .int (F25 12)) C (hR.rdX 0 rfl) rfl in_X1 12 (by decide) q405 (fun _ h9 => h9) rfl dX1_unpad_69 ?_
    refine lv_goto (tgt := 85) hx hb dX1_unpad_72 (by decide) ?_
    exact kX1_unpad_b85 C hlt hxt hR hS hk hn (lv_sub hl [] rfl) hw
def wX1_unpad_b51 (post : (Nat → Int32) → (Nat → Nat → Int32) → x_H → Prop) (postX : String → (Nat → Int32) → (Nat → Nat → Int32) → x_H → Prop) (ad : Nat → Nat)  (F : (Nat → Int32)) (M : (Nat → Nat → Int32)) (h : x_H) (mc : Nat) (ms : Nat) : Prop :=
  wX1_unpad_b56 post postX ad F M h mc ms 1
theorem kX1_unpad_b51 {post : (Nat → Int32) → (Nat → Nat → Int32) → x_H → Prop} {postX : String → (Nat → Int32) → (Nat → Nat → Int32) → x_H → Prop} (C : x_C p s m args meth c cX1_unpad 1 none RX1 D N0 gp) (hlt : l.stackTraces = false) (hxt : ∀ x ∈ c.exceptionTable.toList, False) {F : (Nat → Int32)} {M : (Nat → Nat → Int32)} {h : x_H} {mc : Nat} {ms : Nat} {k n : Nat} {H : Heap} {locs : List Loc} {ls : Array Slot} (hR : x_R D s N0 (fixC ad F M ++ XF) h H) (hS : va_S (x_A N0) s.heap H locs) (hk : k + mc ≤ mc0) (hn : n + ms ≤ ms0) (hl : lv_has ls 1 [(0, .ref (ad 1000))]) (hw : wX1_unpad_b51 post postX ad F M h mc ms) : W p l e (rmX1_unpad mc0 ms0) s m args below meth c H locs k n (vx_MQ below (x_Qc D N0 (x_Vv (qCv ad XF post))) (x_XC D N0 (qXC ad XF postX)) args s mc0 ms0 (x_A N0)) (F0 m 51 ls [.ref (ad 1000)]) := by
  obtain ⟨⟨hx, hb, hml, hown, hts⟩, hr, hlocks, hG, hN⟩ := id C
  unfold wX1_unpad_b51 at hw
  refine lv_iconst (v := 1) hx hb dX1_unpad_51 (by decide) ?_
  refine lv_goto (tgt := 56) hx hb dX1_unpad_52 (by decide) ?_
  exact kX1_unpad_b56 C hlt hxt hR hS hk hn (lv_sub hl [0] rfl) hw
def wX1_unpad_b55 (post : (Nat → Int32) → (Nat → Nat → Int32) → x_H → Prop) (postX : String → (Nat → Int32) → (Nat → Nat → Int32) → x_H → Prop) (ad : Nat → Nat)  (F : (Nat → Int32)) (M : (Nat → Nat → Int32)) (h : x_H) (mc : Nat) (ms : Nat) : Prop :=
  wX1_unpad_b56 post postX ad F M h mc ms 0
theorem kX1_unpad_b55 {post : (Nat → Int32) → (Nat → Nat → Int32) → x_H → Prop} {postX : String → (Nat → Int32) → (Nat → Nat → Int32) → x_H → Prop} (C : x_C p s m args meth c cX1_unpad 1 none RX1 D N0 gp) (hlt : l.stackTraces = false) (hxt : ∀ x ∈ c.exceptionTable.toList, False) {F : (Nat → Int32)} {M : (Nat → Nat → Int32)} {h : x_H} {mc : Nat} {ms : Nat} {k n : Nat} {H : Heap} {locs : List Loc} {ls : Array Slot} (hR : x_R D s N0 (fixC ad F M ++ XF) h H) (hS : va_S (x_A N0) s.heap H locs) (hk : k + mc ≤ mc0) (hn : n + ms ≤ ms0) (hl : lv_has ls 1 [(0, .ref (ad 1000))]) (hw : wX1_unpad_b55 post postX ad F M h mc ms) : W p l e (rmX1_unpad mc0 ms0) s m args below meth c H locs k n (vx_MQ below (x_Qc D N0 (x_Vv (qCv ad XF post))) (x_XC D N0 (qXC ad XF postX)) args s mc0 ms0 (x_A N0)) (F0 m 55 ls [.ref (ad 1000)]) := by
  obtain ⟨⟨hx, hb, hml, hown, hts⟩, hr, hlocks, hG, hN⟩ := id C
  unfold wX1_unpad_b55 at hw
  refine lv_iconst (v := 0) hx hb dX1_unpad_55 (by decide) ?_
  exact kX1_unpad_b56 C hlt hxt hR hS hk hn (lv_sub hl [0] rfl) hw
def wX1_unpad_b15 (post : (Nat → Int32) → (Nat → Nat → Int32) → x_H → Prop) (postX : String → (Nat → Int32) → (Nat → Nat → Int32) → x_H → Prop) (ad : Nat → Nat)  (F : (Nat → Int32)) (M : (Nat → Nat → Int32)) (h : x_H) (mc : Nat) (ms : Nat) (s0 : Int32) : Prop :=
  ((F 12) < s0 → wX1_unpad_b55 post postX ad (upd F 13 s0) M h mc ms) ∧ (¬ (F 12) < s0 → (s0 = 0 → wX1_unpad_b51 post postX ad (upd F 13 s0) M h mc ms) ∧ (¬ s0 = 0 → wX1_byteAt (fun r19 => (((F 12) - 1) < r19 → wX1_unpad_b55 post postX ad (upd F 13 s0) M h mc ms) ∧ (¬ ((F 12) - 1) < r19 → wX1_unpad_b51 post postX ad (upd F 13 s0) M h mc ms)) ad 0 (upd F 13 s0) M h))
theorem kX1_unpad_b15 {post : (Nat → Int32) → (Nat → Nat → Int32) → x_H → Prop} {postX : String → (Nat → Int32) → (Nat → Nat → Int32) → x_H → Prop} (C : x_C p s m args meth c cX1_unpad 1 none RX1 D N0 gp) (hlt : l.stackTraces = false) (hxt : ∀ x ∈ c.exceptionTable.toList, False) {F : (Nat → Int32)} {M : (Nat → Nat → Int32)} {h : x_H} {mc : Nat} {ms : Nat} {s0 : Int32} {k n : Nat} {H : Heap} {locs : List Loc} {ls : Array Slot} (hR : x_R D s N0 (fixC ad F M ++ XF) h H) (hS : va_S (x_A N0) s.heap H locs) (hk : k + mc ≤ mc0) (hn : n + ms ≤ ms0) (hl : lv_has ls 1 [(0, .ref (ad 1000))]) (hw : wX1_unpad_b15 post postX ad F M h mc ms s0) : W p l e (rmX1_unpad mc0 ms0) s m args below meth c H locs k n (vx_MQ below (x_Qc D N0 (x_Vv (qCv ad XF post))) (x_XC D N0 (qXC ad XF postX)) args s mc0 ms0 (x_A N0)) (F0 m 15 ls [.int s0, .ref (ad 1000)]) := by
  obtain ⟨⟨hx, hb, hml, hown, hts⟩, hr, hlocks, hG, hN⟩ := id C
  unfold wX1_unpad_b15 at hw
  refine x_putX (ci := 0) (Cn := RX1) (T := TX1) (N := 27) (v := .int s0) C hR hS 0 rfl rfl in_X1 tyX1_ok nmX1 13 (by decide) q406 (fun _ h9 => h9) rfl rfl rfl (Nat.le_of_ble_eq_true rfl) (sC_f13 ..) dX1_unpad_15 (fun H locs hR hS => ?_)
  refine lv_aload_n hx hb dX1_unpad_18 rfl (lv_at hl 0 rfl) ?_
  refine lv_aload_n hx hb dX1_unpad_19 rfl (lv_at hl 0 rfl) ?_
  refine x_get (ci := 0) (Cn := RX1) (T := TX1) (N := 27) (v := .int s0) C (hR.rdX 0 rfl) rfl in_X1 13 (by decide) q406 (fun _ h9 => h9) rfl dX1_unpad_20 ?_
  refine lv_aload_n hx hb dX1_unpad_23 rfl (lv_at hl 0 rfl) ?_
  refine x_get (ci := 0) (Cn := RX1) (T := TX1) (N := 27) (v := .int (F 12)) C (hR.rdX 0 rfl) rfl in_X1 12 (by decide) q405 (fun _ h9 => h9) rfl dX1_unpad_24 ?_
  refine lv_icmp_gt (tgt := 55) hx hb dX1_unpad_27 (by decide) (fun c17 => ?_) (fun c17 => ?_)
  · replace hw := hw.1 c17
    exact kX1_unpad_b55 C hlt hxt hR hS hk hn (lv_sub hl [0] rfl) hw
  · replace hw := hw.2 c17
    refine lv_aload_n hx hb dX1_unpad_30 rfl (lv_at hl 0 rfl) ?_
    refine x_get (ci := 0) (Cn := RX1) (T := TX1) (N := 27) (v := .int s0) C (hR.rdX 0 rfl) rfl in_X1 13 (by decide) q406 (fun _ h9 => h9) rfl dX1_unpad_31 ?_
    refine lv_if_eq (tgt := 51) hx hb dX1_unpad_34 (by decide) (fun c18 => ?_) (fun c18 => ?_)
    · replace hw := hw.1 c18
      exact kX1_unpad_b51 C hlt hxt hR hS hk hn (lv_sub hl [0] rfl) hw
    · replace hw := hw.2 c18
      refine lv_aload_n hx hb dX1_unpad_37 rfl (lv_at hl 0 rfl) ?_
      refine lv_iconst (v := 0) hx hb dX1_unpad_38 (by decide) ?_
      refine x_calli0 (x_runV (n := 1) (As := [.int 0]) C hR hS (kX1_byteAt l D N0 gp ad XF 0 (upd F 13 s0) M h _ hw) (lw_V q586 q588 qs16 q85 q589) rfl rfl (by decide +kernel) ⟨Nat.le_of_ble_eq_true rfl, Nat.le_of_ble_eq_true rfl⟩ (x_recv C (hR.rdX 0 rfl) rfl) rfl hl.1 rfl (Nat.le_of_ble_eq_true rfl) dX1_unpad_39 ⟨x_bud0 hk, x_bud0 hn⟩) hS (fun r19 X1 h1 H locs hq hR hS => ?_)
      clear hw
      obtain ⟨e1, e2, hw⟩ := hq
      rw [e1, e2] at hR
      refine lv_aload_n hx hb dX1_unpad_42 rfl (lv_at hl 0 rfl) ?_
      refine x_get (ci := 0) (Cn := RX1) (T := TX1) (N := 27) (v := .int (F 12)) C (hR.rdX 0 rfl) rfl in_X1 12 (by decide) q405 (fun _ h9 => h9) rfl dX1_unpad_43 ?_
      refine lv_iconst (v := 1) hx hb dX1_unpad_46 (by decide) ?_
      refine lv_isub hx hb dX1_unpad_47 ?_
      refine lv_icmp_gt (tgt := 55) hx hb dX1_unpad_48 (by decide) (fun c20 => ?_) (fun c20 => ?_)
      · replace hw := hw.1 c20
        exact kX1_unpad_b55 C hlt hxt hR hS hk hn (lv_sub hl [0] rfl) hw
      · replace hw := hw.2 c20
        exact kX1_unpad_b51 C hlt hxt hR hS hk hn (lv_sub hl [0] rfl) hw
end
def wX1_unpad (post : (Nat → Int32) → (Nat → Nat → Int32) → x_H → Prop) (postX : String → (Nat → Int32) → (Nat → Nat → Int32) → x_H → Prop) (ad : Nat → Nat)  (F : (Nat → Int32)) (M : (Nat → Nat → Int32)) (h : x_H) (mc : Nat) (ms : Nat) : Prop :=
  wX1_has (fun r15 => (r15 = 0 → wX1_unpad_b15 post postX ad F M h mc ms 0) ∧ (¬ r15 = 0 → wX1_unpad_b15 post postX ad F M h mc ms 1)) ad 8 F M h
theorem kX1_unpad (l : Launch) (D : va_G) (N0 : Nat) (gp : Nat → Nat) (ad : Nat → Nat) (XF : x_X)  (F : (Nat → Int32)) (M : (Nat → Nat → Int32)) (h : x_H) (mc : Nat) (ms : Nat) (post : (Nat → Int32) → (Nat → Nat → Int32) → x_H → Prop) (postX : String → (Nat → Int32) → (Nat → Nat → Int32) → x_H → Prop) (hlt : l.stackTraces = false) (hw : wX1_unpad post postX ad F M h mc ms) : vx_Met l yX1_unpad (ws_ yX1_unpad cX1_unpad 1 none) (rmX1_unpad mc ms) (x_Pc D N0 gp (fixC ad F M ++ XF) h [.ref (ad 1000)]) (x_Qc D N0 (x_Vv (qCv ad XF post))) (x_XC D N0 (qXC ad XF postX)) mc ms (x_A N0) := by
  refine x_startX (lv := [(0, .ref (ad 1000))]) (by decide) rfl (Nat.le_of_ble_eq_true rfl) rfl ?_
  intro p e s m below meth c C hxt hR ls hl
  have hS : va_S (x_A N0) s.heap s.heap [] := va_S.rf
  obtain ⟨⟨hx, hb, hml, hown, hts⟩, hr, hlocks, hG, hN⟩ := id C
  unfold wX1_unpad at hw
  have hk : 0 + mc ≤ mc := Nat.le_of_eq (Nat.zero_add _)
  have hn : 0 + ms ≤ ms := Nat.le_of_eq (Nat.zero_add _)
  refine lv_aload_n hx hb dX1_unpad_0 rfl (lv_at hl 0 rfl) ?_
  refine lv_aload_n hx hb dX1_unpad_1 rfl (lv_at hl 0 rfl) ?_
  refine lv_bipush (v := 8) hx hb dX1_unpad_2 (by decide) ?_
  refine x_calli0 (x_runV (n := 1) (As := [.int 8]) C hR hS (kX1_has l D N0 gp ad XF 8 F M h _ hw) (lw_V q503 q505 qs10 q85 q506) rfl rfl (by decide +kernel) ⟨Nat.le_of_ble_eq_true rfl, Nat.le_of_ble_eq_true rfl⟩ (x_recv C (hR.rdX 0 rfl) rfl) rfl hl.1 rfl (Nat.le_of_ble_eq_true rfl) dX1_unpad_4 ⟨x_bud0 hk, x_bud0 hn⟩) hS (fun r15 X1 h1 H locs hq hR hS => ?_)
  clear hw
  obtain ⟨e1, e2, hw⟩ := hq
  rw [e1, e2] at hR
  refine lv_if_eq (tgt := 14) hx hb dX1_unpad_7 (by decide) (fun c16 => ?_) (fun c16 => ?_)
  · replace hw := hw.1 c16
    refine lv_iconst (v := 0) hx hb dX1_unpad_14 (by decide) ?_
    exact kX1_unpad_b15 C hlt hxt hR hS hk hn (lv_sub hl [0] rfl) hw
  · replace hw := hw.2 c16
    refine lv_iconst (v := 1) hx hb dX1_unpad_10 (by decide) ?_
    refine lv_goto (tgt := 15) hx hb dX1_unpad_11 (by decide) ?_
    exact kX1_unpad_b15 C hlt hxt hR hS hk hn (lv_sub hl [0] rfl) hw
/-- PageServer.credit(II)V -/
abbrev rmX1_credit : Room := { frames := 2, cells := 0, slots := 0, locals := 45 }
section
variable {p : Program} {l : Launch} {e : Env} {s : State} {m : MethodId} {args : Array Value} {below : List Frame} {meth : Method} {c : Code} {D : va_G} {N0 : Nat} {gp : Nat → Nat} {ad : Nat → Nat} {XF : x_X}
end
def wX1_credit (post : (Nat → Int32) → (Nat → Nat → Int32) → x_H → Prop) (ad : Nat → Nat) (p1 : Int32) (p2 : Int32) (F : (Nat → Int32)) (M : (Nat → Nat → Int32)) (h : x_H) : Prop :=
  wX1_head (fun F7 M7 h8 => wX1_say (fun F9 M9 h10 => wX1_say (fun F11 M11 h12 => post F11 M11 h12) ad p2 F9 M9 h10) ad (p2 >>> ((8 : Int32) &&& 31)) F7 M7 h8) ad 2 8 0 p1 F M h
theorem kX1_credit (l : Launch) (D : va_G) (N0 : Nat) (gp : Nat → Nat) (ad : Nat → Nat) (XF : x_X) (p1 : Int32) (p2 : Int32) (F : (Nat → Int32)) (M : (Nat → Nat → Int32)) (h : x_H) (post : (Nat → Int32) → (Nat → Nat → Int32) → x_H → Prop) (hw : wX1_credit post ad p1 p2 F M h) : Met l yX1_credit (ws_ yX1_credit cX1_credit 3 none) rmX1_credit (x_Pc D N0 gp (fixC ad F M ++ XF) h [.ref (ad 1000), .int p1, .int p2]) (x_Qc D N0 (x_Vv (qCv ad XF post))) 0 0 (x_A N0) := by
  refine x_start (lv := [(0, .ref (ad 1000)), (1, .int p1), (2, .int p2)]) (by decide) rfl (Nat.le_of_ble_eq_true rfl) rfl ?_
  intro p e s m below meth c C hR ls hl
  have hS : va_S (x_A N0) s.heap s.heap [] := va_S.rf
  obtain ⟨⟨hx, hb, hml, hown, hts⟩, hr, hlocks, hG, hN⟩ := id C
  unfold wX1_credit at hw
  refine lv_aload_n hx hb dX1_credit_0 rfl (lv_at hl 0 rfl) ?_
  refine lv_iconst (v := 2) hx hb dX1_credit_1 (by decide) ?_
  refine lv_bipush (v := 8) hx hb dX1_credit_2 (by decide) ?_
  refine lv_iconst (v := 0) hx hb dX1_credit_4 (by decide) ?_
  refine lv_iload_n hx hb dX1_credit_5 rfl (lv_at hl 1 rfl) ?_
  refine x_callv0 (x_runV (n := 4) (As := [.int 2, .int 8, .int 0, .int p1]) C hR hS (kX1_head l D N0 gp ad XF 2 8 0 p1 F M h _ hw) (lw_V q385 q387 qs4 q85 q388) rfl rfl (by decide +kernel) ⟨Nat.le_of_ble_eq_true rfl, Nat.le_of_ble_eq_true rfl⟩ (x_recv C (hR.rdX 0 rfl) rfl) rfl hl.1 rfl (Nat.le_of_ble_eq_true rfl) dX1_credit_6 ⟨Nat.le_refl _, Nat.le_refl _⟩) hS (fun X1 h8 H locs hq hR hS => ?_)
  clear hw
  obtain ⟨F7, M7, e1, hw⟩ := hq
  rw [e1] at hR
  refine lv_aload_n hx hb dX1_credit_9 rfl (lv_at hl 0 rfl) ?_
  refine lv_iload_n hx hb dX1_credit_10 rfl (lv_at hl 2 rfl) ?_
  refine lv_bipush (v := 8) hx hb dX1_credit_11 (by decide) ?_
  refine lv_ishr hx hb dX1_credit_13 ?_
  refine x_callv0 (x_runV (n := 1) (As := [.int (p2 >>> ((8 : Int32) &&& 31))]) C hR hS (kX1_say l D N0 gp ad XF (p2 >>> ((8 : Int32) &&& 31)) F7 M7 h8 _ hw) (lw_V q389 q391 qs5 q85 q392) rfl rfl (by decide +kernel) ⟨Nat.le_of_ble_eq_true rfl, Nat.le_of_ble_eq_true rfl⟩ (x_recv C (hR.rdX 0 rfl) rfl) rfl hl.1 rfl (Nat.le_of_ble_eq_true rfl) dX1_credit_14 ⟨Nat.le_refl _, Nat.le_refl _⟩) hS (fun X1 h10 H locs hq hR hS => ?_)
  clear hw
  obtain ⟨F9, M9, e1, hw⟩ := hq
  rw [e1] at hR
  refine lv_aload_n hx hb dX1_credit_17 rfl (lv_at hl 0 rfl) ?_
  refine lv_iload_n hx hb dX1_credit_18 rfl (lv_at hl 2 rfl) ?_
  refine x_callv0 (x_runV (n := 1) (As := [.int p2]) C hR hS (kX1_say l D N0 gp ad XF p2 F9 M9 h10 _ hw) (lw_V q389 q391 qs5 q85 q392) rfl rfl (by decide +kernel) ⟨Nat.le_of_ble_eq_true rfl, Nat.le_of_ble_eq_true rfl⟩ (x_recv C (hR.rdX 0 rfl) rfl) rfl hl.1 rfl (Nat.le_of_ble_eq_true rfl) dX1_credit_19 ⟨Nat.le_refl _, Nat.le_refl _⟩) hS (fun X1 h12 H locs hq hR hS => ?_)
  clear hw
  obtain ⟨F11, M11, e1, hw⟩ := hq
  rw [e1] at hR
  exact x_endv C hR hS ⟨rfl, ⟨_, _, rfl, hw⟩⟩ (Nat.le_refl _) (Nat.le_refl _) dX1_credit_22
/-- PageServer.known(I)LPageServer$Stream; -/
abbrev rmX1_known : Room := { frames := 3, cells := 0, slots := 0, locals := 64 }
section
variable {p : Program} {l : Launch} {e : Env} {s : State} {m : MethodId} {args : Array Value} {below : List Frame} {meth : Method} {c : Code} {D : va_G} {N0 : Nat} {gp : Nat → Nat} {ad : Nat → Nat} {XF : x_X}
def wX1_known_b43 (post : Option Nat → Prop) (K4 : Option Nat → Int32 → Prop) (ad : Nat → Nat) (p1 : Int32) (F : (Nat → Int32)) (M : (Nat → Nat → Int32)) (h : x_H) (x3 : Int32) (s0 : Option Nat) : Prop :=
  K4 s0 (x3 + 1)
theorem kX1_known_b43 {post : Option Nat → Prop} {K4 : Option Nat → Int32 → Prop} {p1 : Int32} {F : (Nat → Int32)} {M : (Nat → Nat → Int32)} {h : x_H} (C : x_C p s m args meth c cX1_known 5 (some (.object "PageServer$Stream")) RX1 D N0 gp) (hK4 : ∀ (x2 : Option Nat) (x3 : Int32) (H : Heap) (locs : List Loc) (ls : Array Slot), x_R D s N0 (fixC ad F M ++ XF) h H → va_S (x_A N0) s.heap H locs → lv_has ls 5 [(0, .ref (ad 1000)), (1, .int p1), (2, va_rf x2), (3, .int x3)] → K4 x2 x3 → W p l e rmX1_known s m args below meth c H locs 0 0 (MQ below (x_Qc D N0 (x_Va (qPa (fixC ad F M ++ XF) h post))) args s 0 0 (x_A N0)) (F0 m 4 ls [])) {x3 : Int32} {s0 : Option Nat} {H : Heap} {locs : List Loc} {ls : Array Slot} (hR : x_R D s N0 (fixC ad F M ++ XF) h H) (hS : va_S (x_A N0) s.heap H locs) (hl : lv_has ls 5 [(0, .ref (ad 1000)), (1, .int p1), (3, .int x3)]) (hw : wX1_known_b43 post K4 ad p1 F M h x3 s0) : W p l e rmX1_known s m args below meth c H locs 0 0 (MQ below (x_Qc D N0 (x_Va (qPa (fixC ad F M ++ XF) h post))) args s 0 0 (x_A N0)) (F0 m 43 ls [va_rf s0]) := by
  obtain ⟨⟨hx, hb, hml, hown, hts⟩, hr, hlocks, hG, hN⟩ := id C
  unfold wX1_known_b43 at hw
  refine x_astore_nO (lv' := [(2, va_rf s0), (0, .ref (ad 1000)), (1, .int p1), (3, .int x3)]) hx hb dX1_known_43 rfl hl (by decide) rfl (fun ls hl => ?_)
  refine lv_iinc (v := x3 + 1) (lv' := [(3, .int (x3 + 1)), (2, va_rf s0), (0, .ref (ad 1000)), (1, .int p1)]) hx hb dX1_known_44 hl (k := 3) rfl (x_inc 1 1 (by decide)) (by decide) (by simp only [List.filter_cons, List.filter_nil, x_cat1]; rfl) (fun ls hl => ?_)
  refine lv_goto (tgt := 4) hx hb dX1_known_47 (by decide) ?_
  exact hK4 _ _ _ _ _ hR hS (lv_sub hl [2, 3, 1, 0] rfl) hw
def wX1_known_b50 (post : Option Nat → Prop) (ad : Nat → Nat) (p1 : Int32) (F : (Nat → Int32)) (M : (Nat → Nat → Int32)) (h : x_H) (x2 : Option Nat) : Prop :=
  post x2 
theorem kX1_known_b50 {post : Option Nat → Prop} {p1 : Int32} {F : (Nat → Int32)} {M : (Nat → Nat → Int32)} {h : x_H} (C : x_C p s m args meth c cX1_known 5 (some (.object "PageServer$Stream")) RX1 D N0 gp) {x2 : Option Nat} {H : Heap} {locs : List Loc} {ls : Array Slot} (hR : x_R D s N0 (fixC ad F M ++ XF) h H) (hS : va_S (x_A N0) s.heap H locs) (hl : lv_has ls 5 [(2, va_rf x2)]) (hw : wX1_known_b50 post ad p1 F M h x2) : W p l e rmX1_known s m args below meth c H locs 0 0 (MQ below (x_Qc D N0 (x_Va (qPa (fixC ad F M ++ XF) h post))) args s 0 0 (x_A N0)) (F0 m 50 ls []) := by
  obtain ⟨⟨hx, hb, hml, hown, hts⟩, hr, hlocks, hG, hN⟩ := id C
  unfold wX1_known_b50 at hw
  refine x_aload_nO hx hb dX1_known_50 rfl (lv_at hl 0 rfl) ?_
  exact x_enda (v := x2) C (Or.inl ⟨_, rfl⟩) hR hS ⟨_, rfl, ⟨rfl, rfl, hw⟩⟩ (Nat.le_refl _) (Nat.le_refl _) dX1_known_51
def tX1_known_b4 (post : Option Nat → Prop) (K4 : Option Nat → Int32 → Prop) (ad : Nat → Nat) (p1 : Int32) (F : (Nat → Int32)) (M : (Nat → Nat → Int32)) (h : x_H) (x2 : Option Nat) (x3 : Int32) : Prop :=
  ∃ (t20 : Nat) (fs21 : List Value), h (ad 1) = some (t20, .inr (7, fs21)) ∧ wJ2_size (fun r19 => (r19 ≤ x3 → wX1_known_b50 post ad p1 F M h x2) ∧ (¬ r19 ≤ x3 → ∃ (t25 : Nat) (fs26 : List Value), h (ad 1) = some (t25, .inr (7, fs26)) ∧ wJ2_get (fun r24 => ∃ a28 : Nat, r24 = some a28 ∧ ∃ (t29 : Nat) (fs30 : List Value), h a28 = some (t29, .inr (4, fs30)) ∧ ∃ y33 : Int32, x_f h a28 4 0 (.int y33) ∧ (y33 = p1 → wX1_known_b43 post K4 ad p1 F M h x3 (some a28)) ∧ (¬ y33 = p1 → wX1_known_b43 post K4 ad p1 F M h x3 x2)) (ad 1) x3 h)) (ad 1) h
def wX1_known_b4 (post : Option Nat → Prop) (ad : Nat → Nat) (p1 : Int32) (F : (Nat → Int32)) (M : (Nat → Nat → Int32)) (h : x_H) : Nat → Option Nat → Int32 → Prop
  | 0 => fun _ _ => False
  | n + 1 => fun x2 x3 => tX1_known_b4 post (wX1_known_b4 post ad p1 F M h n) ad p1 F M h x2 x3
theorem kX1_known_b4 {post : Option Nat → Prop} {p1 : Int32} {F : (Nat → Int32)} {M : (Nat → Nat → Int32)} {h : x_H} (C : x_C p s m args meth c cX1_known 5 (some (.object "PageServer$Stream")) RX1 D N0 gp) : ∀ (nn : Nat) (x2 : Option Nat) (x3 : Int32) (H : Heap) (locs : List Loc) (ls : Array Slot), x_R D s N0 (fixC ad F M ++ XF) h H → va_S (x_A N0) s.heap H locs → lv_has ls 5 [(0, .ref (ad 1000)), (1, .int p1), (2, va_rf x2), (3, .int x3)] → wX1_known_b4 post ad p1 F M h nn x2 x3 → W p l e rmX1_known s m args below meth c H locs 0 0 (MQ below (x_Qc D N0 (x_Va (qPa (fixC ad F M ++ XF) h post))) args s 0 0 (x_A N0)) (F0 m 4 ls []) := by
  obtain ⟨⟨hx, hb, hml, hown, hts⟩, hr, hlocks, hG, hN⟩ := id C
  intro nn
  induction nn with
  | zero =>
    intro x2 x3 H locs ls hR hS hl hw
    exact False.elim hw
  | succ nn ih =>
    intro x2 x3 H locs ls hR hS hl hw
    have hK4 := ih
    replace hw : tX1_known_b4 post (wX1_known_b4 post ad p1 F M h nn) ad p1 F M h x2 x3 := hw
    unfold tX1_known_b4 at hw
    refine lv_iload_n hx hb dX1_known_4 rfl (lv_at hl 3 rfl) ?_
    refine lv_aload_n hx hb dX1_known_5 rfl (lv_at hl 0 rfl) ?_
    refine x_get (ci := 0) (Cn := RX1) (T := TX1) (N := 27) (v := .ref (ad 1)) C (hR.rdX 0 rfl) rfl in_X1 1 (by decide) q394 (fun _ h9 => h9) rfl dX1_known_6 ?_
    obtain ⟨t20, fs21, he22, hw⟩ := hw
    refine x_calli0 (x_runV (n := 0) (As := []) C hR hS (kJ2_size l D N0 gp _ (ad 1) h _ hw) (lw_V q358 q359 q360 q88 q361) rfl rfl (by decide +kernel) ⟨Nat.le_of_ble_eq_true rfl, Nat.le_of_ble_eq_true rfl⟩ (x_recv C (hR.rdH he22) rfl) rfl hl.1 rfl (Nat.le_of_ble_eq_true rfl) dX1_known_9 ⟨Nat.le_refl _, Nat.le_refl _⟩) hS (fun r19 X1 h1 H locs hq hR hS => ?_)
    clear hw
    obtain ⟨e1, e2, hw⟩ := hq
    rw [e1, e2] at hR
    refine lv_icmp_ge (tgt := 50) hx hb dX1_known_12 (by decide) (fun c23 => ?_) (fun c23 => ?_)
    · replace hw := hw.1 c23
      exact kX1_known_b50 C hR hS (lv_sub hl [2] rfl) hw
    · replace hw := hw.2 c23
      refine lv_aload_n hx hb dX1_known_15 rfl (lv_at hl 0 rfl) ?_
      refine x_get (ci := 0) (Cn := RX1) (T := TX1) (N := 27) (v := .ref (ad 1)) C (hR.rdX 0 rfl) rfl in_X1 1 (by decide) q394 (fun _ h9 => h9) rfl dX1_known_16 ?_
      refine lv_iload_n hx hb dX1_known_19 rfl (lv_at hl 3 rfl) ?_
      obtain ⟨t25, fs26, he27, hw⟩ := hw
      refine x_calla0 (x_runV (n := 1) (As := [.int x3]) C hR hS (kJ2_get l D N0 gp _ (ad 1) x3 h _ hw) (lw_V q598 q599 q600 q88 q601) rfl rfl (by decide +kernel) ⟨Nat.le_of_ble_eq_true rfl, Nat.le_of_ble_eq_true rfl⟩ (x_recv C (hR.rdH he27) rfl) rfl hl.1 rfl (Nat.le_of_ble_eq_true rfl) dX1_known_20 ⟨Nat.le_refl _, Nat.le_refl _⟩) hS (fun r24 X1 h1 H locs hq hR hS => ?_)
      clear hw
      obtain ⟨e1, e2, hw⟩ := hq
      rw [e1, e2] at hR
      obtain ⟨a28, ea28, hw⟩ := hw
      rw [ea28]
      obtain ⟨t29, fs30, he31, hw⟩ := hw
      refine x_castH (ci := 4) (Cn := RX5) (T := TX5) (N := 9) C hR he31 rfl q313 dX1_known_23 ?_
      refine lv_astore (lv' := [(4, .ref a28), (0, .ref (ad 1000)), (1, .int p1), (2, va_rf x2), (3, .int x3)]) hx hb dX1_known_26 hl (by decide) rfl (fun ls hl => ?_)
      refine lv_aload hx hb dX1_known_28 (lv_at hl 0 rfl) ?_
      obtain ⟨y33, hf32, hw⟩ := hw
      refine x_getHN (ci := 4) (Cn := RX5) (T := TX5) (N := 9) (k := 0) C hR hf32 rfl in_X5 (by decide) (x_nest C q320 rfl) (fun _ h9 => h9) dX1_known_30 ?_
      refine lv_iload_n hx hb dX1_known_33 rfl (lv_at hl 2 rfl) ?_
      refine lv_icmp_ne (tgt := 42) hx hb dX1_known_34 (by decide) (fun c34 => ?_) (fun c34 => ?_)
      · replace hw := hw.2 c34
        refine x_aload_nO hx hb dX1_known_42 rfl (lv_at hl 3 rfl) ?_
        exact kX1_known_b43 C hK4 hR hS (lv_sub hl [1, 2, 4] rfl) hw
      · replace hw := hw.1 c34
        refine lv_aload hx hb dX1_known_37 (lv_at hl 0 rfl) ?_
        refine lv_goto (tgt := 43) hx hb dX1_known_39 (by decide) ?_
        exact kX1_known_b43 C hK4 hR hS (lv_sub hl [1, 2, 4] rfl) hw
end
def wX1_known (post : Option Nat → Prop) (ad : Nat → Nat) (p1 : Int32) (F : (Nat → Int32)) (M : (Nat → Nat → Int32)) (h : x_H) : Prop :=
  ∃ n18 : Nat, wX1_known_b4 post ad p1 F M h n18 none 0
theorem kX1_known (l : Launch) (D : va_G) (N0 : Nat) (gp : Nat → Nat) (ad : Nat → Nat) (XF : x_X) (p1 : Int32) (F : (Nat → Int32)) (M : (Nat → Nat → Int32)) (h : x_H) (post : Option Nat → Prop) (hw : wX1_known post ad p1 F M h ) : Met l yX1_known (ws_ yX1_known cX1_known 5 (some (.object "PageServer$Stream"))) rmX1_known (x_Pc D N0 gp (fixC ad F M ++ XF) h [.ref (ad 1000), .int p1]) (x_Qc D N0 (x_Va (qPa (fixC ad F M ++ XF) h post))) 0 0 (x_A N0) := by
  refine x_start (lv := [(0, .ref (ad 1000)), (1, .int p1)]) (by decide) rfl (Nat.le_of_ble_eq_true rfl) rfl ?_
  intro p e s m below meth c C hR ls hl
  have hS : va_S (x_A N0) s.heap s.heap [] := va_S.rf
  obtain ⟨⟨hx, hb, hml, hown, hts⟩, hr, hlocks, hG, hN⟩ := id C
  unfold wX1_known at hw
  refine lv_null hx hb dX1_known_0 ?_
  refine lv_astore_nN (lv' := [(2, .null), (0, .ref (ad 1000)), (1, .int p1)]) hx hb dX1_known_1 rfl hl (by decide) rfl (fun ls hl => ?_)
  refine lv_iconst (v := 0) hx hb dX1_known_2 (by decide) ?_
  refine lv_istore_n (lv' := [(3, .int 0), (2, .null), (0, .ref (ad 1000)), (1, .int p1)]) hx hb dX1_known_3 rfl hl (by decide) rfl (fun ls hl => ?_)
  obtain ⟨n18, hw⟩ := hw
  exact kX1_known_b4 C n18 _ _ _ _ _ hR hS (lv_sub hl [2, 3, 1, 0] rfl) hw
/-- PageServer.want(ZI)V -/
abbrev rmX1_want (mc0 ms0 : Nat) : Room := { frames := 6, cells := mc0, slots := ms0, locals := 100 }
section
variable {p : Program} {l : Launch} {e : Env} {s : State} {m : MethodId} {args : Array Value} {below : List Frame} {meth : Method} {c : Code} {D : va_G} {N0 : Nat} {gp : Nat → Nat} {ad : Nat → Nat} {XF : x_X} {mc0 ms0 : Nat}
end
def wX1_want (post : (Nat → Int32) → (Nat → Nat → Int32) → x_H → Prop) (postX : String → (Nat → Int32) → (Nat → Nat → Int32) → x_H → Prop) (ad : Nat → Nat) (p1 : Int32) (p2 : Int32) (F : (Nat → Int32)) (M : (Nat → Nat → Int32)) (h : x_H) (mc : Nat) (ms : Nat) : Prop :=
  (p1 = 0 → 1 ≤ mc ∧ 6 ≤ ms ∧ postX "java/lang/IllegalArgumentException" (upd F 20 p2) M h) ∧ (¬ p1 = 0 → post F M h)
theorem kX1_want (l : Launch) (D : va_G) (N0 : Nat) (gp : Nat → Nat) (ad : Nat → Nat) (XF : x_X) (p1 : Int32) (p2 : Int32) (F : (Nat → Int32)) (M : (Nat → Nat → Int32)) (h : x_H) (mc : Nat) (ms : Nat) (post : (Nat → Int32) → (Nat → Nat → Int32) → x_H → Prop) (postX : String → (Nat → Int32) → (Nat → Nat → Int32) → x_H → Prop) (hlt : l.stackTraces = false) (hw : wX1_want post postX ad p1 p2 F M h mc ms) : vx_Met l yX1_want (ws_ yX1_want cX1_want 3 none) (rmX1_want mc ms) (x_Pc D N0 gp (fixC ad F M ++ XF) h [.ref (ad 1000), .int p1, .int p2]) (x_Qc D N0 (x_Vv (qCv ad XF post))) (x_XC D N0 (qXC ad XF postX)) mc ms (x_A N0) := by
  refine x_startX (lv := [(0, .ref (ad 1000)), (1, .int p1), (2, .int p2)]) (by decide) rfl (Nat.le_of_ble_eq_true rfl) rfl ?_
  intro p e s m below meth c C hxt hR ls hl
  have hS : va_S (x_A N0) s.heap s.heap [] := va_S.rf
  obtain ⟨⟨hx, hb, hml, hown, hts⟩, hr, hlocks, hG, hN⟩ := id C
  unfold wX1_want at hw
  have hk : 0 + mc ≤ mc := Nat.le_of_eq (Nat.zero_add _)
  have hn : 0 + ms ≤ ms := Nat.le_of_eq (Nat.zero_add _)
  refine lv_iload_n hx hb dX1_want_0 rfl (lv_at hl 1 rfl) ?_
  refine lv_if_eq (tgt := 5) hx hb dX1_want_1 (by decide) (fun c4 => ?_) (fun c4 => ?_)
  · replace hw := hw.1 c4
    refine lv_aload_n hx hb dX1_want_5 rfl (lv_at hl 0 rfl) ?_
    refine lv_iload_n hx hb dX1_want_6 rfl (lv_at hl 2 rfl) ?_
    refine x_putX (ci := 0) (Cn := RX1) (T := TX1) (N := 27) (v := .int p2) C hR hS 0 rfl rfl in_X1 tyX1_ok nmX1 20 (by decide) q413 (fun _ h9 => h9) rfl rfl rfl (Nat.le_of_ble_eq_true rfl) (sC_f20 ..) dX1_want_7 (fun H locs hR hS => ?_)
    obtain ⟨g5, g6, hw⟩ := hw
    exact x_throw C hlt (fun x hx => (hxt x hx).elim) hR hS _ x_at_IAE x_ag_IAE x_ao_IAE (by decide +kernel) q497 q108 hl.1 dX1_want_10 dX1_want_13 dX1_want_14 dX1_want_17 (Nat.le_of_ble_eq_true rfl) (Nat.le_of_ble_eq_true rfl) (x_bud1 hk g5) (x_bud1 hn g6) ⟨_, _, rfl, hw⟩ (x_bud1 hk g5) (x_bud1 hn g6)
  · replace hw := hw.2 c4
    exact vx_ret (x_endv C hR hS ⟨rfl, ⟨_, _, rfl, hw⟩⟩ (x_le hk) (x_le hn) dX1_want_4)
/-- PageServer$Page.path()Ljava/lang/String; -/
abbrev rmX7_path : Room := { frames := 0, cells := 0, slots := 0, locals := 0 }
section
variable {p : Program} {l : Launch} {e : Env} {s : State} {m : MethodId} {args : Array Value} {below : List Frame} {meth : Method} {c : Code} {D : va_G} {N0 : Nat} {gp : Nat → Nat} {X : x_X}
end
def wX7_path (post : Option Nat → Prop) (p0 : Nat) (h : x_H) : Prop :=
  ∃ v4 : Option Nat, x_f h p0 6 0 (va_rf v4) ∧ post v4 
theorem kX7_path (l : Launch) (D : va_G) (N0 : Nat) (gp : Nat → Nat) (X : x_X) (p0 : Nat) (h : x_H) (post : Option Nat → Prop) (hw : wX7_path post p0 h ) : Met l yX7_path (ws_ yX7_path cX7_path 1 (some (.object "java/lang/String"))) rmX7_path (x_Pc D N0 gp X h [.ref p0]) (x_Qc D N0 (x_Va (qPa X h post))) 0 0 (x_A N0) := by
  refine x_start (lv := [(0, .ref p0)]) (by decide) rfl (Nat.le_of_ble_eq_true rfl) rfl ?_
  intro p e s m below meth c C hR ls hl
  have hS : va_S (x_A N0) s.heap s.heap [] := va_S.rf
  obtain ⟨⟨hx, hb, hml, hown, hts⟩, hr, hlocks, hG, hN⟩ := id C
  unfold wX7_path at hw
  refine lv_aload_n hx hb dX7_path_0 rfl (lv_at hl 0 rfl) ?_
  obtain ⟨v4, hf3, hw⟩ := hw
  refine x_getH (ci := 6) (Cn := RX7) (T := TX7) (N := 3) (k := 0) C hR hf3 rfl in_X7 (by decide) q1106 (fun _ h9 => h9) dX7_path_1 ?_
  exact x_enda (v := v4) C (Or.inl ⟨_, rfl⟩) hR hS ⟨_, rfl, ⟨rfl, rfl, hw⟩⟩ (Nat.le_refl _) (Nat.le_refl _) dX7_path_4
/-- PageServer.pageAt(Ljava/lang/String;)LPageServer$Page; -/
abbrev rmX1_pageAt : Room := { frames := 3, cells := 0, slots := 0, locals := 64 }
section
variable {p : Program} {l : Launch} {e : Env} {s : State} {m : MethodId} {args : Array Value} {below : List Frame} {meth : Method} {c : Code} {D : va_G} {N0 : Nat} {gp : Nat → Nat} {ad : Nat → Nat} {XF : x_X}
def wX1_pageAt_b46 (post : Option Nat → Prop) (K4 : Option Nat → Int32 → Prop) (ad : Nat → Nat) (p1 : Nat) (F : (Nat → Int32)) (M : (Nat → Nat → Int32)) (h : x_H) (x3 : Int32) (s0 : Option Nat) : Prop :=
  K4 s0 (x3 + 1)
theorem kX1_pageAt_b46 {post : Option Nat → Prop} {K4 : Option Nat → Int32 → Prop} {p1 : Nat} {F : (Nat → Int32)} {M : (Nat → Nat → Int32)} {h : x_H} (C : x_C p s m args meth c cX1_pageAt 5 (some (.object "PageServer$Page")) RX1 D N0 gp) (hK4 : ∀ (x2 : Option Nat) (x3 : Int32) (H : Heap) (locs : List Loc) (ls : Array Slot), x_R D s N0 (fixC ad F M ++ XF) h H → va_S (x_A N0) s.heap H locs → lv_has ls 5 [(0, .ref (ad 1000)), (1, .ref p1), (2, va_rf x2), (3, .int x3)] → K4 x2 x3 → W p l e rmX1_pageAt s m args below meth c H locs 0 0 (MQ below (x_Qc D N0 (x_Va (qPa (fixC ad F M ++ XF) h post))) args s 0 0 (x_A N0)) (F0 m 4 ls [])) {x3 : Int32} {s0 : Option Nat} {H : Heap} {locs : List Loc} {ls : Array Slot} (hR : x_R D s N0 (fixC ad F M ++ XF) h H) (hS : va_S (x_A N0) s.heap H locs) (hl : lv_has ls 5 [(0, .ref (ad 1000)), (1, .ref p1), (3, .int x3)]) (hw : wX1_pageAt_b46 post K4 ad p1 F M h x3 s0) : W p l e rmX1_pageAt s m args below meth c H locs 0 0 (MQ below (x_Qc D N0 (x_Va (qPa (fixC ad F M ++ XF) h post))) args s 0 0 (x_A N0)) (F0 m 46 ls [va_rf s0]) := by
  obtain ⟨⟨hx, hb, hml, hown, hts⟩, hr, hlocks, hG, hN⟩ := id C
  unfold wX1_pageAt_b46 at hw
  refine x_astore_nO (lv' := [(2, va_rf s0), (0, .ref (ad 1000)), (1, .ref p1), (3, .int x3)]) hx hb dX1_pageAt_46 rfl hl (by decide) rfl (fun ls hl => ?_)
  refine lv_iinc (v := x3 + 1) (lv' := [(3, .int (x3 + 1)), (2, va_rf s0), (0, .ref (ad 1000)), (1, .ref p1)]) hx hb dX1_pageAt_47 hl (k := 3) rfl (x_inc 1 1 (by decide)) (by decide) (by simp only [List.filter_cons, List.filter_nil, x_cat1]; rfl) (fun ls hl => ?_)
  refine lv_goto (tgt := 4) hx hb dX1_pageAt_50 (by decide) ?_
  exact hK4 _ _ _ _ _ hR hS (lv_sub hl [2, 3, 1, 0] rfl) hw
def wX1_pageAt_b53 (post : Option Nat → Prop) (ad : Nat → Nat) (p1 : Nat) (F : (Nat → Int32)) (M : (Nat → Nat → Int32)) (h : x_H) (x2 : Option Nat) : Prop :=
  post x2 
theorem kX1_pageAt_b53 {post : Option Nat → Prop} {p1 : Nat} {F : (Nat → Int32)} {M : (Nat → Nat → Int32)} {h : x_H} (C : x_C p s m args meth c cX1_pageAt 5 (some (.object "PageServer$Page")) RX1 D N0 gp) {x2 : Option Nat} {H : Heap} {locs : List Loc} {ls : Array Slot} (hR : x_R D s N0 (fixC ad F M ++ XF) h H) (hS : va_S (x_A N0) s.heap H locs) (hl : lv_has ls 5 [(2, va_rf x2)]) (hw : wX1_pageAt_b53 post ad p1 F M h x2) : W p l e rmX1_pageAt s m args below meth c H locs 0 0 (MQ below (x_Qc D N0 (x_Va (qPa (fixC ad F M ++ XF) h post))) args s 0 0 (x_A N0)) (F0 m 53 ls []) := by
  obtain ⟨⟨hx, hb, hml, hown, hts⟩, hr, hlocks, hG, hN⟩ := id C
  unfold wX1_pageAt_b53 at hw
  refine x_aload_nO hx hb dX1_pageAt_53 rfl (lv_at hl 0 rfl) ?_
  exact x_enda (v := x2) C (Or.inl ⟨_, rfl⟩) hR hS ⟨_, rfl, ⟨rfl, rfl, hw⟩⟩ (Nat.le_refl _) (Nat.le_refl _) dX1_pageAt_54
def tX1_pageAt_b4 (post : Option Nat → Prop) (K4 : Option Nat → Int32 → Prop) (ad : Nat → Nat) (p1 : Nat) (F : (Nat → Int32)) (M : (Nat → Nat → Int32)) (h : x_H) (x2 : Option Nat) (x3 : Int32) : Prop :=
  ∃ (t27 : Nat) (fs28 : List Value), h (ad 0) = some (t27, .inr (7, fs28)) ∧ wJ2_size (fun r26 => (r26 ≤ x3 → wX1_pageAt_b53 post ad p1 F M h x2) ∧ (¬ r26 ≤ x3 → ∃ (t32 : Nat) (fs33 : List Value), h (ad 0) = some (t32, .inr (7, fs33)) ∧ wJ2_get (fun r31 => ∃ a35 : Nat, r31 = some a35 ∧ ∃ (t36 : Nat) (fs37 : List Value), h a35 = some (t36, .inr (6, fs37)) ∧ ∃ (t40 : Nat) (fs41 : List Value), h a35 = some (t40, .inr (6, fs41)) ∧ wX7_path (fun r39 => ∃ a43 : Nat, r39 = some a43 ∧ ∃ (t45 : Nat) (fs46 : List Value), h a43 = some (t45, .inr (9, fs46)) ∧ wJ9_equals (fun r44 => (r44 = 0 → wX1_pageAt_b46 post K4 ad p1 F M h x3 x2) ∧ (¬ r44 = 0 → wX1_pageAt_b46 post K4 ad p1 F M h x3 (some a35))) a43 p1 h) a35 h) (ad 0) x3 h)) (ad 0) h
def wX1_pageAt_b4 (post : Option Nat → Prop) (ad : Nat → Nat) (p1 : Nat) (F : (Nat → Int32)) (M : (Nat → Nat → Int32)) (h : x_H) : Nat → Option Nat → Int32 → Prop
  | 0 => fun _ _ => False
  | n + 1 => fun x2 x3 => tX1_pageAt_b4 post (wX1_pageAt_b4 post ad p1 F M h n) ad p1 F M h x2 x3
theorem kX1_pageAt_b4 {post : Option Nat → Prop} {p1 : Nat} {F : (Nat → Int32)} {M : (Nat → Nat → Int32)} {h : x_H} (C : x_C p s m args meth c cX1_pageAt 5 (some (.object "PageServer$Page")) RX1 D N0 gp) : ∀ (nn : Nat) (x2 : Option Nat) (x3 : Int32) (H : Heap) (locs : List Loc) (ls : Array Slot), x_R D s N0 (fixC ad F M ++ XF) h H → va_S (x_A N0) s.heap H locs → lv_has ls 5 [(0, .ref (ad 1000)), (1, .ref p1), (2, va_rf x2), (3, .int x3)] → wX1_pageAt_b4 post ad p1 F M h nn x2 x3 → W p l e rmX1_pageAt s m args below meth c H locs 0 0 (MQ below (x_Qc D N0 (x_Va (qPa (fixC ad F M ++ XF) h post))) args s 0 0 (x_A N0)) (F0 m 4 ls []) := by
  obtain ⟨⟨hx, hb, hml, hown, hts⟩, hr, hlocks, hG, hN⟩ := id C
  intro nn
  induction nn with
  | zero =>
    intro x2 x3 H locs ls hR hS hl hw
    exact False.elim hw
  | succ nn ih =>
    intro x2 x3 H locs ls hR hS hl hw
    have hK4 := ih
    replace hw : tX1_pageAt_b4 post (wX1_pageAt_b4 post ad p1 F M h nn) ad p1 F M h x2 x3 := hw
    unfold tX1_pageAt_b4 at hw
    refine lv_iload_n hx hb dX1_pageAt_4 rfl (lv_at hl 3 rfl) ?_
    refine lv_aload_n hx hb dX1_pageAt_5 rfl (lv_at hl 0 rfl) ?_
    refine x_get (ci := 0) (Cn := RX1) (T := TX1) (N := 27) (v := .ref (ad 0)) C (hR.rdX 0 rfl) rfl in_X1 0 (by decide) q393 (fun _ h9 => h9) rfl dX1_pageAt_6 ?_
    obtain ⟨t27, fs28, he29, hw⟩ := hw
    refine x_calli0 (x_runV (n := 0) (As := []) C hR hS (kJ2_size l D N0 gp _ (ad 0) h _ hw) (lw_V q358 q359 q360 q88 q361) rfl rfl (by decide +kernel) ⟨Nat.le_of_ble_eq_true rfl, Nat.le_of_ble_eq_true rfl⟩ (x_recv C (hR.rdH he29) rfl) rfl hl.1 rfl (Nat.le_of_ble_eq_true rfl) dX1_pageAt_9 ⟨Nat.le_refl _, Nat.le_refl _⟩) hS (fun r26 X1 h1 H locs hq hR hS => ?_)
    clear hw
    obtain ⟨e1, e2, hw⟩ := hq
    rw [e1, e2] at hR
    refine lv_icmp_ge (tgt := 53) hx hb dX1_pageAt_12 (by decide) (fun c30 => ?_) (fun c30 => ?_)
    · replace hw := hw.1 c30
      exact kX1_pageAt_b53 C hR hS (lv_sub hl [2] rfl) hw
    · replace hw := hw.2 c30
      refine lv_aload_n hx hb dX1_pageAt_15 rfl (lv_at hl 0 rfl) ?_
      refine x_get (ci := 0) (Cn := RX1) (T := TX1) (N := 27) (v := .ref (ad 0)) C (hR.rdX 0 rfl) rfl in_X1 0 (by decide) q393 (fun _ h9 => h9) rfl dX1_pageAt_16 ?_
      refine lv_iload_n hx hb dX1_pageAt_19 rfl (lv_at hl 3 rfl) ?_
      obtain ⟨t32, fs33, he34, hw⟩ := hw
      refine x_calla0 (x_runV (n := 1) (As := [.int x3]) C hR hS (kJ2_get l D N0 gp _ (ad 0) x3 h _ hw) (lw_V q598 q599 q600 q88 q601) rfl rfl (by decide +kernel) ⟨Nat.le_of_ble_eq_true rfl, Nat.le_of_ble_eq_true rfl⟩ (x_recv C (hR.rdH he34) rfl) rfl hl.1 rfl (Nat.le_of_ble_eq_true rfl) dX1_pageAt_20 ⟨Nat.le_refl _, Nat.le_refl _⟩) hS (fun r31 X1 h1 H locs hq hR hS => ?_)
      clear hw
      obtain ⟨e1, e2, hw⟩ := hq
      rw [e1, e2] at hR
      obtain ⟨a35, ea35, hw⟩ := hw
      rw [ea35]
      obtain ⟨t36, fs37, he38, hw⟩ := hw
      refine x_castH (ci := 6) (Cn := RX7) (T := TX7) (N := 3) C hR he38 rfl q647 dX1_pageAt_23 ?_
      refine lv_astore (lv' := [(4, .ref a35), (0, .ref (ad 1000)), (1, .ref p1), (2, va_rf x2), (3, .int x3)]) hx hb dX1_pageAt_26 hl (by decide) rfl (fun ls hl => ?_)
      refine lv_aload hx hb dX1_pageAt_28 (lv_at hl 0 rfl) ?_
      obtain ⟨t40, fs41, he42, hw⟩ := hw
      refine x_calla0 (x_runV (n := 0) (As := []) C hR hS (kX7_path l D N0 gp _ a35 h _ hw) (lw_V q648 q649 q650 q113 q651) rfl rfl (by decide +kernel) ⟨Nat.le_of_ble_eq_true rfl, Nat.le_of_ble_eq_true rfl⟩ (x_recv C (hR.rdH he42) rfl) rfl hl.1 rfl (Nat.le_of_ble_eq_true rfl) dX1_pageAt_30 ⟨Nat.le_refl _, Nat.le_refl _⟩) hS (fun r39 X1 h1 H locs hq hR hS => ?_)
      clear hw
      obtain ⟨e1, e2, hw⟩ := hq
      rw [e1, e2] at hR
      refine lv_aload_n hx hb dX1_pageAt_33 rfl (lv_at hl 2 rfl) ?_
      obtain ⟨a43, ea43, hw⟩ := hw
      rw [ea43]
      obtain ⟨t45, fs46, he47, hw⟩ := hw
      refine x_calli0 (x_runV (n := 1) (As := [.ref p1]) C hR hS (kJ9_equals l D N0 gp _ a43 p1 h _ hw) (lw_V q633 q634 q635 q99 q636) rfl rfl (by decide +kernel) ⟨Nat.le_of_ble_eq_true rfl, Nat.le_of_ble_eq_true rfl⟩ (x_recv C (hR.rdH he47) rfl) rfl hl.1 rfl (Nat.le_of_ble_eq_true rfl) dX1_pageAt_34 ⟨Nat.le_refl _, Nat.le_refl _⟩) hS (fun r44 X1 h1 H locs hq hR hS => ?_)
      clear hw
      obtain ⟨e1, e2, hw⟩ := hq
      rw [e1, e2] at hR
      refine lv_if_eq (tgt := 45) hx hb dX1_pageAt_37 (by decide) (fun c48 => ?_) (fun c48 => ?_)
      · replace hw := hw.1 c48
        refine x_aload_nO hx hb dX1_pageAt_45 rfl (lv_at hl 3 rfl) ?_
        exact kX1_pageAt_b46 C hK4 hR hS (lv_sub hl [1, 2, 4] rfl) hw
      · replace hw := hw.2 c48
        refine lv_aload hx hb dX1_pageAt_40 (lv_at hl 0 rfl) ?_
        refine lv_goto (tgt := 46) hx hb dX1_pageAt_42 (by decide) ?_
        exact kX1_pageAt_b46 C hK4 hR hS (lv_sub hl [1, 2, 4] rfl) hw
end
def wX1_pageAt (post : Option Nat → Prop) (ad : Nat → Nat) (p1 : Nat) (F : (Nat → Int32)) (M : (Nat → Nat → Int32)) (h : x_H) : Prop :=
  ∃ n25 : Nat, wX1_pageAt_b4 post ad p1 F M h n25 none 0
theorem kX1_pageAt (l : Launch) (D : va_G) (N0 : Nat) (gp : Nat → Nat) (ad : Nat → Nat) (XF : x_X) (p1 : Nat) (F : (Nat → Int32)) (M : (Nat → Nat → Int32)) (h : x_H) (post : Option Nat → Prop) (hw : wX1_pageAt post ad p1 F M h ) : Met l yX1_pageAt (ws_ yX1_pageAt cX1_pageAt 5 (some (.object "PageServer$Page"))) rmX1_pageAt (x_Pc D N0 gp (fixC ad F M ++ XF) h [.ref (ad 1000), .ref p1]) (x_Qc D N0 (x_Va (qPa (fixC ad F M ++ XF) h post))) 0 0 (x_A N0) := by
  refine x_start (lv := [(0, .ref (ad 1000)), (1, .ref p1)]) (by decide) rfl (Nat.le_of_ble_eq_true rfl) rfl ?_
  intro p e s m below meth c C hR ls hl
  have hS : va_S (x_A N0) s.heap s.heap [] := va_S.rf
  obtain ⟨⟨hx, hb, hml, hown, hts⟩, hr, hlocks, hG, hN⟩ := id C
  unfold wX1_pageAt at hw
  refine lv_null hx hb dX1_pageAt_0 ?_
  refine lv_astore_nN (lv' := [(2, .null), (0, .ref (ad 1000)), (1, .ref p1)]) hx hb dX1_pageAt_1 rfl hl (by decide) rfl (fun ls hl => ?_)
  refine lv_iconst (v := 0) hx hb dX1_pageAt_2 (by decide) ?_
  refine lv_istore_n (lv' := [(3, .int 0), (2, .null), (0, .ref (ad 1000)), (1, .ref p1)]) hx hb dX1_pageAt_3 rfl hl (by decide) rfl (fun ls hl => ?_)
  obtain ⟨n25, hw⟩ := hw
  exact kX1_pageAt_b4 C n25 _ _ _ _ _ hR hS (lv_sub hl [2, 3, 1, 0] rfl) hw
/-- PageServer$Page.size()I -/
abbrev rmX7_size : Room := { frames := 0, cells := 0, slots := 0, locals := 0 }
section
variable {p : Program} {l : Launch} {e : Env} {s : State} {m : MethodId} {args : Array Value} {below : List Frame} {meth : Method} {c : Code} {D : va_G} {N0 : Nat} {gp : Nat → Nat} {X : x_X}
end
def wX7_size (post : Int32 → Prop) (p0 : Nat) (h : x_H) : Prop :=
  ∃ y4 : Int32, x_f h p0 6 1 (.int y4) ∧ post y4 
theorem kX7_size (l : Launch) (D : va_G) (N0 : Nat) (gp : Nat → Nat) (X : x_X) (p0 : Nat) (h : x_H) (post : Int32 → Prop) (hw : wX7_size post p0 h ) : Met l yX7_size (ws_ yX7_size cX7_size 1 (some .int)) rmX7_size (x_Pc D N0 gp X h [.ref p0]) (x_Qc D N0 (x_Vi (qPi X h post))) 0 0 (x_A N0) := by
  refine x_start (lv := [(0, .ref p0)]) (by decide) rfl (Nat.le_of_ble_eq_true rfl) rfl ?_
  intro p e s m below meth c C hR ls hl
  have hS : va_S (x_A N0) s.heap s.heap [] := va_S.rf
  obtain ⟨⟨hx, hb, hml, hown, hts⟩, hr, hlocks, hG, hN⟩ := id C
  unfold wX7_size at hw
  refine lv_aload_n hx hb dX7_size_0 rfl (lv_at hl 0 rfl) ?_
  obtain ⟨y4, hf3, hw⟩ := hw
  refine x_getH (ci := 6) (Cn := RX7) (T := TX7) (N := 3) (k := 1) C hR hf3 rfl in_X7 (by decide) q1107 (fun _ h9 => h9) dX7_size_1 ?_
  exact x_endi C hR hS ⟨_, rfl, ⟨rfl, rfl, hw⟩⟩ (Nat.le_refl _) (Nat.le_refl _) dX7_size_4
/-- PageServer$Page.b()I -/
abbrev rmX7_b : Room := { frames := 0, cells := 0, slots := 0, locals := 0 }
section
variable {p : Program} {l : Launch} {e : Env} {s : State} {m : MethodId} {args : Array Value} {below : List Frame} {meth : Method} {c : Code} {D : va_G} {N0 : Nat} {gp : Nat → Nat} {X : x_X}
end
def wX7_b (post : Int32 → Prop) (p0 : Nat) (h : x_H) : Prop :=
  ∃ y4 : Int32, x_f h p0 6 2 (.int y4) ∧ post y4 
theorem kX7_b (l : Launch) (D : va_G) (N0 : Nat) (gp : Nat → Nat) (X : x_X) (p0 : Nat) (h : x_H) (post : Int32 → Prop) (hw : wX7_b post p0 h ) : Met l yX7_b (ws_ yX7_b cX7_b 1 (some .int)) rmX7_b (x_Pc D N0 gp X h [.ref p0]) (x_Qc D N0 (x_Vi (qPi X h post))) 0 0 (x_A N0) := by
  refine x_start (lv := [(0, .ref p0)]) (by decide) rfl (Nat.le_of_ble_eq_true rfl) rfl ?_
  intro p e s m below meth c C hR ls hl
  have hS : va_S (x_A N0) s.heap s.heap [] := va_S.rf
  obtain ⟨⟨hx, hb, hml, hown, hts⟩, hr, hlocks, hG, hN⟩ := id C
  unfold wX7_b at hw
  refine lv_aload_n hx hb dX7_b_0 rfl (lv_at hl 0 rfl) ?_
  obtain ⟨y4, hf3, hw⟩ := hw
  refine x_getH (ci := 6) (Cn := RX7) (T := TX7) (N := 3) (k := 2) C hR hf3 rfl in_X7 (by decide) q1108 (fun _ h9 => h9) dX7_b_1 ?_
  exact x_endi C hR hS ⟨_, rfl, ⟨rfl, rfl, hw⟩⟩ (Nat.le_refl _) (Nat.le_refl _) dX7_b_4
/-- PageServer.over(I)V -/
abbrev rmX1_over (mc0 ms0 : Nat) : Room := { frames := 7, cells := mc0, slots := ms0, locals := 171 }
section
variable {p : Program} {l : Launch} {e : Env} {s : State} {m : MethodId} {args : Array Value} {below : List Frame} {meth : Method} {c : Code} {D : va_G} {N0 : Nat} {gp : Nat → Nat} {ad : Nat → Nat} {XF : x_X} {mc0 ms0 : Nat}
def wX1_over_b46 (post : (Nat → Int32) → (Nat → Nat → Int32) → x_H → Prop) (K21 : (Nat → Int32) → (Nat → Nat → Int32) → x_H → Nat → Nat → Nat → Int32 → Prop) (gp : Nat → Nat) (ad : Nat → Nat) (p1 : Int32) (F : (Nat → Int32)) (M : (Nat → Nat → Int32)) (h : x_H) (mc : Nat) (ms : Nat) (x2 : Nat) (x3 : Int32) : Prop :=
  K21 F M h mc ms x2 (x3 + (-1))
theorem kX1_over_b46 {post : (Nat → Int32) → (Nat → Nat → Int32) → x_H → Prop} {K21 : (Nat → Int32) → (Nat → Nat → Int32) → x_H → Nat → Nat → Nat → Int32 → Prop} {p1 : Int32} (C : x_C p s m args meth c cX1_over 4 none RX1 D N0 gp) (hK21 : ∀ (F : (Nat → Int32)) (M : (Nat → Nat → Int32)) (h : x_H) (mc : Nat) (ms : Nat) (x2 : Nat) (x3 : Int32) (k n : Nat) (H : Heap) (locs : List Loc) (ls : Array Slot), x_R D s N0 (fixC ad F M ++ XF) h H → va_S (x_A N0) s.heap H locs → k + mc ≤ mc0 → n + ms ≤ ms0 → lv_has ls 4 [(0, .ref (ad 1000)), (2, .ref x2), (3, .int x3)] → K21 F M h mc ms x2 x3 → W p l e (rmX1_over mc0 ms0) s m args below meth c H locs k n (MQ below (x_Qc D N0 (x_Vv (qCv ad XF post))) args s mc0 ms0 (x_A N0)) (F0 m 21 ls [])) {F : (Nat → Int32)} {M : (Nat → Nat → Int32)} {h : x_H} {mc : Nat} {ms : Nat} {x2 : Nat} {x3 : Int32} {k n : Nat} {H : Heap} {locs : List Loc} {ls : Array Slot} (hR : x_R D s N0 (fixC ad F M ++ XF) h H) (hS : va_S (x_A N0) s.heap H locs) (hk : k + mc ≤ mc0) (hn : n + ms ≤ ms0) (hl : lv_has ls 4 [(0, .ref (ad 1000)), (2, .ref x2), (3, .int x3)]) (hw : wX1_over_b46 post K21 gp ad p1 F M h mc ms x2 x3) : W p l e (rmX1_over mc0 ms0) s m args below meth c H locs k n (MQ below (x_Qc D N0 (x_Vv (qCv ad XF post))) args s mc0 ms0 (x_A N0)) (F0 m 46 ls []) := by
  obtain ⟨⟨hx, hb, hml, hown, hts⟩, hr, hlocks, hG, hN⟩ := id C
  unfold wX1_over_b46 at hw
  refine lv_iinc (v := x3 + (-1)) (lv' := [(3, .int (x3 + (-1))), (0, .ref (ad 1000)), (2, .ref x2)]) hx hb dX1_over_46 hl (k := 2) rfl (x_inc (-1) (-1) (by decide)) (by decide) rfl (fun ls hl => ?_)
  refine lv_goto (tgt := 21) hx hb dX1_over_49 (by decide) ?_
  exact hK21 _ _ _ _ _ _ _ _ _ _ _ _ hR hS hk hn (lv_sub hl [1, 2, 0] rfl) hw
def wX1_over_b52 (post : (Nat → Int32) → (Nat → Nat → Int32) → x_H → Prop) (gp : Nat → Nat) (ad : Nat → Nat) (p1 : Int32) (F : (Nat → Int32)) (M : (Nat → Nat → Int32)) (h : x_H) (mc : Nat) (ms : Nat) (x2 : Nat) : Prop :=
  ∃ (t52 : Nat) (fs53 : List Value), h (ad 2) = some (t52, .inr (7, fs53)) ∧ ∃ ca47 cb48 mc49 ms50 : Nat, ca47 + mc49 ≤ mc ∧ cb48 + ms50 ≤ ms ∧ wJ2_add (fun r46 h51 => post F M h51) gp (ad 2) x2 h ca47 cb48
theorem kX1_over_b52 {post : (Nat → Int32) → (Nat → Nat → Int32) → x_H → Prop} {p1 : Int32} (C : x_C p s m args meth c cX1_over 4 none RX1 D N0 gp) {F : (Nat → Int32)} {M : (Nat → Nat → Int32)} {h : x_H} {mc : Nat} {ms : Nat} {x2 : Nat} {k n : Nat} {H : Heap} {locs : List Loc} {ls : Array Slot} (hR : x_R D s N0 (fixC ad F M ++ XF) h H) (hS : va_S (x_A N0) s.heap H locs) (hk : k + mc ≤ mc0) (hn : n + ms ≤ ms0) (hl : lv_has ls 4 [(0, .ref (ad 1000)), (2, .ref x2)]) (hw : wX1_over_b52 post gp ad p1 F M h mc ms x2) : W p l e (rmX1_over mc0 ms0) s m args below meth c H locs k n (MQ below (x_Qc D N0 (x_Vv (qCv ad XF post))) args s mc0 ms0 (x_A N0)) (F0 m 52 ls []) := by
  obtain ⟨⟨hx, hb, hml, hown, hts⟩, hr, hlocks, hG, hN⟩ := id C
  unfold wX1_over_b52 at hw
  refine lv_aload_n hx hb dX1_over_52 rfl (lv_at hl 0 rfl) ?_
  refine x_get (ci := 0) (Cn := RX1) (T := TX1) (N := 27) (v := .ref (ad 2)) C (hR.rdX 0 rfl) rfl in_X1 2 (by decide) q395 (fun _ h9 => h9) rfl dX1_over_53 ?_
  refine lv_aload_n hx hb dX1_over_56 rfl (lv_at hl 1 rfl) ?_
  obtain ⟨t52, fs53, he54, hw⟩ := hw
  obtain ⟨ca47, cb48, mc49, ms50, hca47, hcb48, hw⟩ := hw
  refine x_calli (x_runV (n := 1) (As := [.ref x2]) C hR hS (kJ2_add l D N0 gp _ (ad 2) x2 h ca47 cb48 _ hw) (lw_V q353 q177 q178 q88 q179) rfl rfl (by decide +kernel) ⟨Nat.le_of_ble_eq_true rfl, Nat.le_of_ble_eq_true rfl⟩ (x_recv C (hR.rdH he54) rfl) rfl hl.1 rfl (Nat.le_of_ble_eq_true rfl) dX1_over_57 ⟨x_bud hk hca47, x_bud hn hcb48⟩) hS (fun r46 X1 h51 H locs hq hR hS => ?_)
  clear hw
  obtain ⟨e1, hw⟩ := hq
  rw [e1] at hR
  have hk := x_budN hk hca47
  have hn := x_budN hn hcb48
  refine lv_pop hx hb dX1_over_60 rfl ?_
  exact x_endv C hR hS ⟨rfl, ⟨_, _, rfl, hw⟩⟩ (x_le hk) (x_le hn) dX1_over_61
def tX1_over_b21 (post : (Nat → Int32) → (Nat → Nat → Int32) → x_H → Prop) (K21 : (Nat → Int32) → (Nat → Nat → Int32) → x_H → Nat → Nat → Nat → Int32 → Prop) (gp : Nat → Nat) (ad : Nat → Nat) (p1 : Int32) (F : (Nat → Int32)) (M : (Nat → Nat → Int32)) (h : x_H) (mc : Nat) (ms : Nat) (x2 : Nat) (x3 : Int32) : Prop :=
  (x3 < 0 → wX1_over_b52 post gp ad p1 F M h mc ms x2) ∧ (¬ x3 < 0 → ∃ (t37 : Nat) (fs38 : List Value), h (ad 1) = some (t37, .inr (7, fs38)) ∧ wJ2_get (fun r36 => (r36 = (some x2) → ∃ (t43 : Nat) (fs44 : List Value), h (ad 1) = some (t43, .inr (7, fs44)) ∧ wJ2_remove (fun r41 h42 => wX1_over_b46 post K21 gp ad p1 F M h42 mc ms x2 x3) (ad 1) x3 h) ∧ (¬ r36 = (some x2) → wX1_over_b46 post K21 gp ad p1 F M h mc ms x2 x3)) (ad 1) x3 h)
def wX1_over_b21 (post : (Nat → Int32) → (Nat → Nat → Int32) → x_H → Prop) (gp : Nat → Nat) (ad : Nat → Nat) (p1 : Int32) : Nat → (Nat → Int32) → (Nat → Nat → Int32) → x_H → Nat → Nat → Nat → Int32 → Prop
  | 0 => fun _ _ _ _ _ _ _ => False
  | n + 1 => fun F M h mc ms x2 x3 => tX1_over_b21 post (wX1_over_b21 post gp ad p1 n) gp ad p1 F M h mc ms x2 x3
theorem kX1_over_b21 {post : (Nat → Int32) → (Nat → Nat → Int32) → x_H → Prop} {p1 : Int32} (C : x_C p s m args meth c cX1_over 4 none RX1 D N0 gp) : ∀ (nn : Nat) (F : (Nat → Int32)) (M : (Nat → Nat → Int32)) (h : x_H) (mc : Nat) (ms : Nat) (x2 : Nat) (x3 : Int32) (k n : Nat) (H : Heap) (locs : List Loc) (ls : Array Slot), x_R D s N0 (fixC ad F M ++ XF) h H → va_S (x_A N0) s.heap H locs → k + mc ≤ mc0 → n + ms ≤ ms0 → lv_has ls 4 [(0, .ref (ad 1000)), (2, .ref x2), (3, .int x3)] → wX1_over_b21 post gp ad p1 nn F M h mc ms x2 x3 → W p l e (rmX1_over mc0 ms0) s m args below meth c H locs k n (MQ below (x_Qc D N0 (x_Vv (qCv ad XF post))) args s mc0 ms0 (x_A N0)) (F0 m 21 ls []) := by
  obtain ⟨⟨hx, hb, hml, hown, hts⟩, hr, hlocks, hG, hN⟩ := id C
  intro nn
  induction nn with
  | zero =>
    intro F M h mc ms x2 x3 k n H locs ls hR hS hk hn hl hw
    exact False.elim hw
  | succ nn ih =>
    intro F M h mc ms x2 x3 k n H locs ls hR hS hk hn hl hw
    have hK21 := ih
    replace hw : tX1_over_b21 post (wX1_over_b21 post gp ad p1 nn) gp ad p1 F M h mc ms x2 x3 := hw
    unfold tX1_over_b21 at hw
    refine lv_iload_n hx hb dX1_over_21 rfl (lv_at hl 2 rfl) ?_
    refine lv_if_lt (tgt := 52) hx hb dX1_over_22 (by decide) (fun c35 => ?_) (fun c35 => ?_)
    · replace hw := hw.1 c35
      exact kX1_over_b52 C hR hS hk hn (lv_sub hl [0, 1] rfl) hw
    · replace hw := hw.2 c35
      refine lv_aload_n hx hb dX1_over_25 rfl (lv_at hl 0 rfl) ?_
      refine x_get (ci := 0) (Cn := RX1) (T := TX1) (N := 27) (v := .ref (ad 1)) C (hR.rdX 0 rfl) rfl in_X1 1 (by decide) q394 (fun _ h9 => h9) rfl dX1_over_26 ?_
      refine lv_iload_n hx hb dX1_over_29 rfl (lv_at hl 2 rfl) ?_
      obtain ⟨t37, fs38, he39, hw⟩ := hw
      refine x_calla0 (x_runV (n := 1) (As := [.int x3]) C hR hS (kJ2_get l D N0 gp _ (ad 1) x3 h _ hw) (lw_V q598 q599 q600 q88 q601) rfl rfl (by decide +kernel) ⟨Nat.le_of_ble_eq_true rfl, Nat.le_of_ble_eq_true rfl⟩ (x_recv C (hR.rdH he39) rfl) rfl hl.1 rfl (Nat.le_of_ble_eq_true rfl) dX1_over_30 ⟨x_bud0 hk, x_bud0 hn⟩) hS (fun r36 X1 h1 H locs hq hR hS => ?_)
      clear hw
      obtain ⟨e1, e2, hw⟩ := hq
      rw [e1, e2] at hR
      refine lv_aload_n hx hb dX1_over_33 rfl (lv_at hl 1 rfl) ?_
      refine lv_acmp_ne (rx := r36) (ry := (some x2)) (tgt := 46) hx hb dX1_over_34 (by decide) (fun c40 => ?_) (fun c40 => ?_)
      · replace hw := hw.2 c40
        exact kX1_over_b46 C hK21 hR hS hk hn (lv_sub hl [0, 1, 2] rfl) hw
      · replace hw := hw.1 c40
        refine lv_aload_n hx hb dX1_over_37 rfl (lv_at hl 0 rfl) ?_
        refine x_get (ci := 0) (Cn := RX1) (T := TX1) (N := 27) (v := .ref (ad 1)) C (hR.rdX 0 rfl) rfl in_X1 1 (by decide) q394 (fun _ h9 => h9) rfl dX1_over_38 ?_
        refine lv_iload_n hx hb dX1_over_41 rfl (lv_at hl 2 rfl) ?_
        obtain ⟨t43, fs44, he45, hw⟩ := hw
        refine x_calla0 (x_runV (n := 1) (As := [.int x3]) C hR hS (kJ2_remove l D N0 gp _ (ad 1) x3 h _ hw) (lw_V q362 q363 q364 q88 q365) rfl rfl (by decide +kernel) ⟨Nat.le_of_ble_eq_true rfl, Nat.le_of_ble_eq_true rfl⟩ (x_recv C (hR.rdH he45) rfl) rfl hl.1 rfl (Nat.le_of_ble_eq_true rfl) dX1_over_42 ⟨x_bud0 hk, x_bud0 hn⟩) hS (fun r41 X1 h42 H locs hq hR hS => ?_)
        clear hw
        obtain ⟨e1, hw⟩ := hq
        rw [e1] at hR
        refine lv_pop hx hb dX1_over_45 (x_cat1 _) ?_
        exact kX1_over_b46 C hK21 hR hS hk hn (lv_sub hl [0, 1, 2] rfl) hw
end
def wX1_over (post : (Nat → Int32) → (Nat → Nat → Int32) → x_H → Prop) (gp : Nat → Nat) (ad : Nat → Nat) (p1 : Int32) (F : (Nat → Int32)) (M : (Nat → Nat → Int32)) (h : x_H) (mc : Nat) (ms : Nat) : Prop :=
  wX1_known (fun r28 => (r28 = none → post F M h) ∧ (∀ a29 : Nat, r28 = some a29 → ∃ (t31 : Nat) (fs32 : List Value), h (ad 1) = some (t31, .inr (7, fs32)) ∧ wJ2_size (fun r30 => ∃ n34 : Nat, wX1_over_b21 post gp ad p1 n34 F M h mc ms a29 (r30 - 1)) (ad 1) h)) ad p1 F M h
theorem kX1_over (l : Launch) (D : va_G) (N0 : Nat) (gp : Nat → Nat) (ad : Nat → Nat) (XF : x_X) (p1 : Int32) (F : (Nat → Int32)) (M : (Nat → Nat → Int32)) (h : x_H) (mc : Nat) (ms : Nat) (post : (Nat → Int32) → (Nat → Nat → Int32) → x_H → Prop) (hw : wX1_over post gp ad p1 F M h mc ms) : Met l yX1_over (ws_ yX1_over cX1_over 4 none) (rmX1_over mc ms) (x_Pc D N0 gp (fixC ad F M ++ XF) h [.ref (ad 1000), .int p1]) (x_Qc D N0 (x_Vv (qCv ad XF post))) mc ms (x_A N0) := by
  refine x_start (lv := [(0, .ref (ad 1000)), (1, .int p1)]) (by decide) rfl (Nat.le_of_ble_eq_true rfl) rfl ?_
  intro p e s m below meth c C hR ls hl
  have hS : va_S (x_A N0) s.heap s.heap [] := va_S.rf
  obtain ⟨⟨hx, hb, hml, hown, hts⟩, hr, hlocks, hG, hN⟩ := id C
  unfold wX1_over at hw
  have hk : 0 + mc ≤ mc := Nat.le_of_eq (Nat.zero_add _)
  have hn : 0 + ms ≤ ms := Nat.le_of_eq (Nat.zero_add _)
  refine lv_aload_n hx hb dX1_over_0 rfl (lv_at hl 0 rfl) ?_
  refine lv_iload_n hx hb dX1_over_1 rfl (lv_at hl 1 rfl) ?_
  refine x_calla0 (x_runV (n := 1) (As := [.int p1]) C hR hS (kX1_known l D N0 gp ad XF p1 F M h _ hw) (lw_V q594 q596 qs18 q85 q597) rfl rfl (by decide +kernel) ⟨Nat.le_of_ble_eq_true rfl, Nat.le_of_ble_eq_true rfl⟩ (x_recv C (hR.rdX 0 rfl) rfl) rfl hl.1 rfl (Nat.le_of_ble_eq_true rfl) dX1_over_2 ⟨x_bud0 hk, x_bud0 hn⟩) hS (fun r28 X1 h1 H locs hq hR hS => ?_)
  clear hw
  obtain ⟨e1, e2, hw⟩ := hq
  rw [e1, e2] at hR
  refine x_astore_nO (lv' := [(2, va_rf r28), (0, .ref (ad 1000)), (1, .int p1)]) hx hb dX1_over_5 rfl hl (by decide) rfl (fun ls hl => ?_)
  refine x_aload_nO hx hb dX1_over_6 rfl (lv_at hl 0 rfl) ?_
  cases r28 with
  | none =>
    replace hw := hw.1 rfl
    refine lv_ifnonnullN hx hb dX1_over_7 ?_
    exact x_endv C hR hS ⟨rfl, ⟨_, _, rfl, hw⟩⟩ (x_le hk) (x_le hn) dX1_over_10
  | some a29 =>
    replace hw := hw.2 a29 rfl
    refine lv_ifnonnull (tgt := 11) hx hb dX1_over_7 (by decide) ?_
    refine lv_aload_n hx hb dX1_over_11 rfl (lv_at hl 1 rfl) ?_
    refine x_get (ci := 0) (Cn := RX1) (T := TX1) (N := 27) (v := .ref (ad 1)) C (hR.rdX 0 rfl) rfl in_X1 1 (by decide) q394 (fun _ h9 => h9) rfl dX1_over_12 ?_
    obtain ⟨t31, fs32, he33, hw⟩ := hw
    refine x_calli0 (x_runV (n := 0) (As := []) C hR hS (kJ2_size l D N0 gp _ (ad 1) h _ hw) (lw_V q358 q359 q360 q88 q361) rfl rfl (by decide +kernel) ⟨Nat.le_of_ble_eq_true rfl, Nat.le_of_ble_eq_true rfl⟩ (x_recv C (hR.rdH he33) rfl) rfl hl.1 rfl (Nat.le_of_ble_eq_true rfl) dX1_over_15 ⟨x_bud0 hk, x_bud0 hn⟩) hS (fun r30 X1 h1 H locs hq hR hS => ?_)
    clear hw
    obtain ⟨e1, e2, hw⟩ := hq
    rw [e1, e2] at hR
    refine lv_iconst (v := 1) hx hb dX1_over_18 (by decide) ?_
    refine lv_isub hx hb dX1_over_19 ?_
    refine lv_istore_n (lv' := [(3, .int (r30 - 1)), (2, .ref a29), (0, .ref (ad 1000)), (1, .int p1)]) hx hb dX1_over_20 rfl hl (by decide) rfl (fun ls hl => ?_)
    obtain ⟨n34, hw⟩ := hw
    exact kX1_over_b21 C n34 _ _ _ _ _ _ _ _ _ _ _ _ hR hS hk hn (lv_sub hl [2, 1, 0] rfl) hw
/-- PageServer.answer(LPageServer$Stream;)V -/
abbrev rmX1_answer (mc0 ms0 : Nat) : Room := { frames := 8, cells := mc0, slots := ms0, locals := 194 }
section
variable {p : Program} {l : Launch} {e : Env} {s : State} {m : MethodId} {args : Array Value} {below : List Frame} {meth : Method} {c : Code} {D : va_G} {N0 : Nat} {gp : Nat → Nat} {ad : Nat → Nat} {XF : x_X} {mc0 ms0 : Nat}
def wX1_answer_b193 (post : (Nat → Int32) → (Nat → Nat → Int32) → x_H → Prop) (gp : Nat → Nat) (ad : Nat → Nat) (p1 : Nat) (F : (Nat → Int32)) (M : (Nat → Nat → Int32)) (h : x_H) (mc : Nat) (ms : Nat) : Prop :=
  post F M h
theorem kX1_answer_b193 {post : (Nat → Int32) → (Nat → Nat → Int32) → x_H → Prop} {p1 : Nat} (C : x_C p s m args meth c cX1_answer 6 none RX1 D N0 gp) {F : (Nat → Int32)} {M : (Nat → Nat → Int32)} {h : x_H} {mc : Nat} {ms : Nat} {k n : Nat} {H : Heap} {locs : List Loc} {ls : Array Slot} (hR : x_R D s N0 (fixC ad F M ++ XF) h H) (hS : va_S (x_A N0) s.heap H locs) (hk : k + mc ≤ mc0) (hn : n + ms ≤ ms0) (hl : lv_has ls 6 []) (hw : wX1_answer_b193 post gp ad p1 F M h mc ms) : W p l e (rmX1_answer mc0 ms0) s m args below meth c H locs k n (MQ below (x_Qc D N0 (x_Vv (qCv ad XF post))) args s mc0 ms0 (x_A N0)) (F0 m 193 ls []) := by
  obtain ⟨⟨hx, hb, hml, hown, hts⟩, hr, hlocks, hG, hN⟩ := id C
  unfold wX1_answer_b193 at hw
  exact x_endv C hR hS ⟨rfl, ⟨_, _, rfl, hw⟩⟩ (x_le hk) (x_le hn) dX1_answer_193
def wX1_answer_b177 (post : (Nat → Int32) → (Nat → Nat → Int32) → x_H → Prop) (gp : Nat → Nat) (ad : Nat → Nat) (p1 : Nat) (F : (Nat → Int32)) (M : (Nat → Nat → Int32)) (h : x_H) (mc : Nat) (ms : Nat) (x5 : Int32) (s0 : Int32) : Prop :=
  ∃ (t134 : Nat) (fs135 : List Value), h p1 = some (t134, .inr (4, fs135)) ∧ t134 ≠ 1 ∧ 5 < fs135.length ∧ ∀ h139 : x_H, h139 = x_hs h p1 t134 (.inr (4, fs135.set 5 (.int s0))) → (x5 = 0 → ∃ y142 : Int32, x_f h139 p1 4 0 (.int y142) ∧ ∃ ca143 cb144 mc145 ms146 : Nat, ca143 + mc145 ≤ mc ∧ cb144 + ms146 ≤ ms ∧ wX1_over (fun F147 M147 h148 => wX1_answer_b193 post gp ad p1 F147 M147 h148 mc145 ms146) gp ad y142 F M h139 ca143 cb144) ∧ (¬ x5 = 0 → wX1_answer_b193 post gp ad p1 F M h139 mc ms)
theorem kX1_answer_b177 {post : (Nat → Int32) → (Nat → Nat → Int32) → x_H → Prop} {p1 : Nat} (C : x_C p s m args meth c cX1_answer 6 none RX1 D N0 gp) {F : (Nat → Int32)} {M : (Nat → Nat → Int32)} {h : x_H} {mc : Nat} {ms : Nat} {x5 : Int32} {s0 : Int32} {k n : Nat} {H : Heap} {locs : List Loc} {ls : Array Slot} (hR : x_R D s N0 (fixC ad F M ++ XF) h H) (hS : va_S (x_A N0) s.heap H locs) (hk : k + mc ≤ mc0) (hn : n + ms ≤ ms0) (hl : lv_has ls 6 [(0, .ref (ad 1000)), (1, .ref p1), (5, .int x5)]) (hw : wX1_answer_b177 post gp ad p1 F M h mc ms x5 s0) : W p l e (rmX1_answer mc0 ms0) s m args below meth c H locs k n (MQ below (x_Qc D N0 (x_Vv (qCv ad XF post))) args s mc0 ms0 (x_A N0)) (F0 m 177 ls [.int s0, .ref p1]) := by
  obtain ⟨⟨hx, hb, hml, hown, hts⟩, hr, hlocks, hG, hN⟩ := id C
  unfold wX1_answer_b177 at hw
  obtain ⟨t134, fs135, he136, ht137, hl138, hw⟩ := hw
  refine x_putHN (ci := 4) (Cn := RX5) (T := TX5) (N := 9) (v := .int s0) C hR hS he136 ht137 rfl in_X5 tyX5_ok nmX5 5 (by decide) (x_nest C q329 rfl) (fun _ h9 => h9) rfl rfl rfl hl138 dX1_answer_177 (fun H locs hR hS => ?_)
  obtain ⟨h139, eh139⟩ : ∃ z, z = x_hs h p1 t134 (.inr (4, fs135.set 5 (.int s0))) := ⟨_, rfl⟩
  rw [← eh139] at hR
  replace hw := hw h139 eh139
  refine lv_iload hx hb dX1_answer_180 (lv_at hl 2 rfl) ?_
  refine lv_if_ne (tgt := 193) hx hb dX1_answer_182 (by decide) (fun c140 => ?_) (fun c140 => ?_)
  · replace hw := hw.2 c140
    exact kX1_answer_b193 C hR hS hk hn (lv_sub hl [] rfl) hw
  · replace hw := hw.1 c140
    refine lv_aload_n hx hb dX1_answer_185 rfl (lv_at hl 0 rfl) ?_
    refine lv_aload_n hx hb dX1_answer_186 rfl (lv_at hl 1 rfl) ?_
    obtain ⟨y142, hf141, hw⟩ := hw
    refine x_getHN (ci := 4) (Cn := RX5) (T := TX5) (N := 9) (k := 0) C hR hf141 rfl in_X5 (by decide) (x_nest C q320 rfl) (fun _ h9 => h9) dX1_answer_187 ?_
    obtain ⟨ca143, cb144, mc145, ms146, hca143, hcb144, hw⟩ := hw
    refine x_callv (x_runV (n := 1) (As := [.int y142]) C hR hS (kX1_over l D N0 gp ad XF y142 F M h139 ca143 cb144 _ hw) (lw_V q660 q662 qs23 q85 q663) rfl rfl (by decide +kernel) ⟨Nat.le_of_ble_eq_true rfl, Nat.le_of_ble_eq_true rfl⟩ (x_recv C (hR.rdX 0 rfl) rfl) rfl hl.1 rfl (Nat.le_of_ble_eq_true rfl) dX1_answer_190 ⟨x_bud hk hca143, x_bud hn hcb144⟩) hS (fun X1 h148 H locs hq hR hS => ?_)
    clear hw
    obtain ⟨F147, M147, e1, hw⟩ := hq
    rw [e1] at hR
    have hk := x_budN hk hca143
    have hn := x_budN hn hcb144
    exact kX1_answer_b193 C hR hS hk hn (lv_sub hl [] rfl) hw
def wX1_answer_b156 (post : (Nat → Int32) → (Nat → Nat → Int32) → x_H → Prop) (gp : Nat → Nat) (ad : Nat → Nat) (p1 : Nat) (F : (Nat → Int32)) (M : (Nat → Nat → Int32)) (h : x_H) (mc : Nat) (ms : Nat) (x4 : Option Nat) (x5 : Int32) : Prop :=
  ∃ (t122 : Nat) (fs123 : List Value), h p1 = some (t122, .inr (4, fs123)) ∧ t122 ≠ 1 ∧ 4 < fs123.length ∧ ∀ h127 : x_H, h127 = x_hs h p1 t122 (.inr (4, fs123.set 4 (.int x5))) → (x5 = 0 → wX1_answer_b177 post gp ad p1 F M h127 mc ms x5 0) ∧ (¬ x5 = 0 → ∃ a129 : Nat, x4 = some a129 ∧ ∃ (t131 : Nat) (fs132 : List Value), h127 a129 = some (t131, .inr (6, fs132)) ∧ wX7_b (fun r130 => wX1_answer_b177 post gp ad p1 F M h127 mc ms x5 r130) a129 h127)
theorem kX1_answer_b156 {post : (Nat → Int32) → (Nat → Nat → Int32) → x_H → Prop} {p1 : Nat} (C : x_C p s m args meth c cX1_answer 6 none RX1 D N0 gp) {F : (Nat → Int32)} {M : (Nat → Nat → Int32)} {h : x_H} {mc : Nat} {ms : Nat} {x4 : Option Nat} {x5 : Int32} {k n : Nat} {H : Heap} {locs : List Loc} {ls : Array Slot} (hR : x_R D s N0 (fixC ad F M ++ XF) h H) (hS : va_S (x_A N0) s.heap H locs) (hk : k + mc ≤ mc0) (hn : n + ms ≤ ms0) (hl : lv_has ls 6 [(0, .ref (ad 1000)), (1, .ref p1), (4, va_rf x4), (5, .int x5)]) (hw : wX1_answer_b156 post gp ad p1 F M h mc ms x4 x5) : W p l e (rmX1_answer mc0 ms0) s m args below meth c H locs k n (MQ below (x_Qc D N0 (x_Vv (qCv ad XF post))) args s mc0 ms0 (x_A N0)) (F0 m 156 ls []) := by
  obtain ⟨⟨hx, hb, hml, hown, hts⟩, hr, hlocks, hG, hN⟩ := id C
  unfold wX1_answer_b156 at hw
  refine lv_aload_n hx hb dX1_answer_156 rfl (lv_at hl 1 rfl) ?_
  refine lv_iload hx hb dX1_answer_157 (lv_at hl 3 rfl) ?_
  obtain ⟨t122, fs123, he124, ht125, hl126, hw⟩ := hw
  refine x_putHN (ci := 4) (Cn := RX5) (T := TX5) (N := 9) (v := .int x5) C hR hS he124 ht125 rfl in_X5 tyX5_ok nmX5 4 (by decide) (x_nest C q328 rfl) (fun _ h9 => h9) rfl rfl rfl hl126 dX1_answer_159 (fun H locs hR hS => ?_)
  obtain ⟨h127, eh127⟩ : ∃ z, z = x_hs h p1 t122 (.inr (4, fs123.set 4 (.int x5))) := ⟨_, rfl⟩
  rw [← eh127] at hR
  replace hw := hw h127 eh127
  refine lv_aload_n hx hb dX1_answer_162 rfl (lv_at hl 1 rfl) ?_
  refine lv_iload hx hb dX1_answer_163 (lv_at hl 3 rfl) ?_
  refine lv_if_ne (tgt := 172) hx hb dX1_answer_165 (by decide) (fun c128 => ?_) (fun c128 => ?_)
  · replace hw := hw.2 c128
    refine x_aloadO hx hb dX1_answer_172 (lv_at hl 2 rfl) ?_
    obtain ⟨a129, ea129, hw⟩ := hw
    rw [ea129]
    obtain ⟨t131, fs132, he133, hw⟩ := hw
    refine x_calli0 (x_runV (n := 0) (As := []) C hR hS (kX7_b l D N0 gp _ a129 h127 _ hw) (lw_V q656 q657 q658 q113 q659) rfl rfl (by decide +kernel) ⟨Nat.le_of_ble_eq_true rfl, Nat.le_of_ble_eq_true rfl⟩ (x_recv C (hR.rdH he133) rfl) rfl hl.1 rfl (Nat.le_of_ble_eq_true rfl) dX1_answer_174 ⟨x_bud0 hk, x_bud0 hn⟩) hS (fun r130 X1 h1 H locs hq hR hS => ?_)
    clear hw
    obtain ⟨e1, e2, hw⟩ := hq
    rw [e1, e2] at hR
    exact kX1_answer_b177 C hR hS hk hn (lv_sub hl [0, 1, 3] rfl) hw
  · replace hw := hw.1 c128
    refine lv_iconst (v := 0) hx hb dX1_answer_168 (by decide) ?_
    refine lv_goto (tgt := 177) hx hb dX1_answer_169 (by decide) ?_
    exact kX1_answer_b177 C hR hS hk hn (lv_sub hl [0, 1, 3] rfl) hw
def wX1_answer_b121 (post : (Nat → Int32) → (Nat → Nat → Int32) → x_H → Prop) (gp : Nat → Nat) (ad : Nat → Nat) (p1 : Nat) (F : (Nat → Int32)) (M : (Nat → Nat → Int32)) (h : x_H) (mc : Nat) (ms : Nat) (x4 : Option Nat) (x5 : Int32) (s0 : Int32) : Prop :=
  wX1_say (fun F120 M120 h121 => wX1_answer_b156 post gp ad p1 F120 M120 h121 mc ms x4 x5) ad s0 F M h
theorem kX1_answer_b121 {post : (Nat → Int32) → (Nat → Nat → Int32) → x_H → Prop} {p1 : Nat} (C : x_C p s m args meth c cX1_answer 6 none RX1 D N0 gp) {F : (Nat → Int32)} {M : (Nat → Nat → Int32)} {h : x_H} {mc : Nat} {ms : Nat} {x4 : Option Nat} {x5 : Int32} {s0 : Int32} {k n : Nat} {H : Heap} {locs : List Loc} {ls : Array Slot} (hR : x_R D s N0 (fixC ad F M ++ XF) h H) (hS : va_S (x_A N0) s.heap H locs) (hk : k + mc ≤ mc0) (hn : n + ms ≤ ms0) (hl : lv_has ls 6 [(0, .ref (ad 1000)), (1, .ref p1), (4, va_rf x4), (5, .int x5)]) (hw : wX1_answer_b121 post gp ad p1 F M h mc ms x4 x5 s0) : W p l e (rmX1_answer mc0 ms0) s m args below meth c H locs k n (MQ below (x_Qc D N0 (x_Vv (qCv ad XF post))) args s mc0 ms0 (x_A N0)) (F0 m 121 ls [.int s0, .ref (ad 1000)]) := by
  obtain ⟨⟨hx, hb, hml, hown, hts⟩, hr, hlocks, hG, hN⟩ := id C
  unfold wX1_answer_b121 at hw
  refine x_callv0 (x_runV (n := 1) (As := [.int s0]) C hR hS (kX1_say l D N0 gp ad XF s0 F M h _ hw) (lw_V q389 q391 qs5 q85 q392) rfl rfl (by decide +kernel) ⟨Nat.le_of_ble_eq_true rfl, Nat.le_of_ble_eq_true rfl⟩ (x_recv C (hR.rdX 0 rfl) rfl) rfl hl.1 rfl (Nat.le_of_ble_eq_true rfl) dX1_answer_121 ⟨x_bud0 hk, x_bud0 hn⟩) hS (fun X1 h121 H locs hq hR hS => ?_)
  clear hw
  obtain ⟨F120, M120, e1, hw⟩ := hq
  rw [e1] at hR
  refine lv_goto (tgt := 156) hx hb dX1_answer_124 (by decide) ?_
  exact kX1_answer_b156 C hR hS hk hn (lv_sub hl [0, 1, 2, 3] rfl) hw
def wX1_answer_b94 (post : (Nat → Int32) → (Nat → Nat → Int32) → x_H → Prop) (gp : Nat → Nat) (ad : Nat → Nat) (p1 : Nat) (F : (Nat → Int32)) (M : (Nat → Nat → Int32)) (h : x_H) (mc : Nat) (ms : Nat) (x3 : Int32) (x4 : Option Nat) (x5 : Int32) (s0 : Int32) (s3 : Int32) : Prop :=
  ∃ y105 : Int32, x_f h p1 4 0 (.int y105) ∧ wX1_head (fun F106 M106 h107 => (x3 = 0 → wX1_say (fun F109 M109 h110 => wX1_say (fun F111 M111 h112 => wX1_say (fun F113 M113 h114 => wX1_say (fun F115 M115 h116 => wX1_say (fun F117 M117 h118 => wX1_answer_b156 post gp ad p1 F117 M117 h118 mc ms x4 x5) ad 53 F115 M115 h116) ad 48 F113 M113 h114) ad 52 F111 M111 h112) ad 3 F109 M109 h110) ad 6 F106 M106 h107) ∧ (¬ x3 = 0 → (x4 = none → wX1_answer_b121 post gp ad p1 F106 M106 h107 mc ms none x5 135) ∧ (∀ a119 : Nat, x4 = some a119 → wX1_answer_b121 post gp ad p1 F106 M106 h107 mc ms (some a119) x5 134))) ad s3 1 ((4 : Int32) ||| s0) y105 F M h
theorem kX1_answer_b94 {post : (Nat → Int32) → (Nat → Nat → Int32) → x_H → Prop} {p1 : Nat} (C : x_C p s m args meth c cX1_answer 6 none RX1 D N0 gp) {F : (Nat → Int32)} {M : (Nat → Nat → Int32)} {h : x_H} {mc : Nat} {ms : Nat} {x3 : Int32} {x4 : Option Nat} {x5 : Int32} {s0 : Int32} {s3 : Int32} {k n : Nat} {H : Heap} {locs : List Loc} {ls : Array Slot} (hR : x_R D s N0 (fixC ad F M ++ XF) h H) (hS : va_S (x_A N0) s.heap H locs) (hk : k + mc ≤ mc0) (hn : n + ms ≤ ms0) (hl : lv_has ls 6 [(0, .ref (ad 1000)), (1, .ref p1), (3, .int x3), (4, va_rf x4), (5, .int x5)]) (hw : wX1_answer_b94 post gp ad p1 F M h mc ms x3 x4 x5 s0 s3) : W p l e (rmX1_answer mc0 ms0) s m args below meth c H locs k n (MQ below (x_Qc D N0 (x_Vv (qCv ad XF post))) args s mc0 ms0 (x_A N0)) (F0 m 94 ls [.int s0, .int 4, .int 1, .int s3, .ref (ad 1000)]) := by
  obtain ⟨⟨hx, hb, hml, hown, hts⟩, hr, hlocks, hG, hN⟩ := id C
  unfold wX1_answer_b94 at hw
  refine lv_ior hx hb dX1_answer_94 ?_
  refine lv_aload_n hx hb dX1_answer_95 rfl (lv_at hl 1 rfl) ?_
  obtain ⟨y105, hf104, hw⟩ := hw
  refine x_getHN (ci := 4) (Cn := RX5) (T := TX5) (N := 9) (k := 0) C hR hf104 rfl in_X5 (by decide) (x_nest C q320 rfl) (fun _ h9 => h9) dX1_answer_96 ?_
  refine x_callv0 (x_runV (n := 4) (As := [.int s3, .int 1, .int ((4 : Int32) ||| s0), .int y105]) C hR hS (kX1_head l D N0 gp ad XF s3 1 ((4 : Int32) ||| s0) y105 F M h _ hw) (lw_V q385 q387 qs4 q85 q388) rfl rfl (by decide +kernel) ⟨Nat.le_of_ble_eq_true rfl, Nat.le_of_ble_eq_true rfl⟩ (x_recv C (hR.rdX 0 rfl) rfl) rfl hl.1 rfl (Nat.le_of_ble_eq_true rfl) dX1_answer_99 ⟨x_bud0 hk, x_bud0 hn⟩) hS (fun X1 h107 H locs hq hR hS => ?_)
  clear hw
  obtain ⟨F106, M106, e1, hw⟩ := hq
  rw [e1] at hR
  refine lv_iload_n hx hb dX1_answer_102 rfl (lv_at hl 2 rfl) ?_
  refine lv_if_eq (tgt := 127) hx hb dX1_answer_103 (by decide) (fun c108 => ?_) (fun c108 => ?_)
  · replace hw := hw.1 c108
    refine lv_aload_n hx hb dX1_answer_127 rfl (lv_at hl 0 rfl) ?_
    refine lv_bipush (v := 6) hx hb dX1_answer_128 (by decide) ?_
    refine x_callv0 (x_runV (n := 1) (As := [.int 6]) C hR hS (kX1_say l D N0 gp ad XF 6 F106 M106 h107 _ hw) (lw_V q389 q391 qs5 q85 q392) rfl rfl (by decide +kernel) ⟨Nat.le_of_ble_eq_true rfl, Nat.le_of_ble_eq_true rfl⟩ (x_recv C (hR.rdX 0 rfl) rfl) rfl hl.1 rfl (Nat.le_of_ble_eq_true rfl) dX1_answer_130 ⟨x_bud0 hk, x_bud0 hn⟩) hS (fun X1 h110 H locs hq hR hS => ?_)
    clear hw
    obtain ⟨F109, M109, e1, hw⟩ := hq
    rw [e1] at hR
    refine lv_aload_n hx hb dX1_answer_133 rfl (lv_at hl 0 rfl) ?_
    refine lv_iconst (v := 3) hx hb dX1_answer_134 (by decide) ?_
    refine x_callv0 (x_runV (n := 1) (As := [.int 3]) C hR hS (kX1_say l D N0 gp ad XF 3 F109 M109 h110 _ hw) (lw_V q389 q391 qs5 q85 q392) rfl rfl (by decide +kernel) ⟨Nat.le_of_ble_eq_true rfl, Nat.le_of_ble_eq_true rfl⟩ (x_recv C (hR.rdX 0 rfl) rfl) rfl hl.1 rfl (Nat.le_of_ble_eq_true rfl) dX1_answer_135 ⟨x_bud0 hk, x_bud0 hn⟩) hS (fun X1 h112 H locs hq hR hS => ?_)
    clear hw
    obtain ⟨F111, M111, e1, hw⟩ := hq
    rw [e1] at hR
    refine lv_aload_n hx hb dX1_answer_138 rfl (lv_at hl 0 rfl) ?_
    refine lv_bipush (v := 52) hx hb dX1_answer_139 (by decide) ?_
    refine x_callv0 (x_runV (n := 1) (As := [.int 52]) C hR hS (kX1_say l D N0 gp ad XF 52 F111 M111 h112 _ hw) (lw_V q389 q391 qs5 q85 q392) rfl rfl (by decide +kernel) ⟨Nat.le_of_ble_eq_true rfl, Nat.le_of_ble_eq_true rfl⟩ (x_recv C (hR.rdX 0 rfl) rfl) rfl hl.1 rfl (Nat.le_of_ble_eq_true rfl) dX1_answer_141 ⟨x_bud0 hk, x_bud0 hn⟩) hS (fun X1 h114 H locs hq hR hS => ?_)
    clear hw
    obtain ⟨F113, M113, e1, hw⟩ := hq
    rw [e1] at hR
    refine lv_aload_n hx hb dX1_answer_144 rfl (lv_at hl 0 rfl) ?_
    refine lv_bipush (v := 48) hx hb dX1_answer_145 (by decide) ?_
    refine x_callv0 (x_runV (n := 1) (As := [.int 48]) C hR hS (kX1_say l D N0 gp ad XF 48 F113 M113 h114 _ hw) (lw_V q389 q391 qs5 q85 q392) rfl rfl (by decide +kernel) ⟨Nat.le_of_ble_eq_true rfl, Nat.le_of_ble_eq_true rfl⟩ (x_recv C (hR.rdX 0 rfl) rfl) rfl hl.1 rfl (Nat.le_of_ble_eq_true rfl) dX1_answer_147 ⟨x_bud0 hk, x_bud0 hn⟩) hS (fun X1 h116 H locs hq hR hS => ?_)
    clear hw
    obtain ⟨F115, M115, e1, hw⟩ := hq
    rw [e1] at hR
    refine lv_aload_n hx hb dX1_answer_150 rfl (lv_at hl 0 rfl) ?_
    refine lv_bipush (v := 53) hx hb dX1_answer_151 (by decide) ?_
    refine x_callv0 (x_runV (n := 1) (As := [.int 53]) C hR hS (kX1_say l D N0 gp ad XF 53 F115 M115 h116 _ hw) (lw_V q389 q391 qs5 q85 q392) rfl rfl (by decide +kernel) ⟨Nat.le_of_ble_eq_true rfl, Nat.le_of_ble_eq_true rfl⟩ (x_recv C (hR.rdX 0 rfl) rfl) rfl hl.1 rfl (Nat.le_of_ble_eq_true rfl) dX1_answer_153 ⟨x_bud0 hk, x_bud0 hn⟩) hS (fun X1 h118 H locs hq hR hS => ?_)
    clear hw
    obtain ⟨F117, M117, e1, hw⟩ := hq
    rw [e1] at hR
    exact kX1_answer_b156 C hR hS hk hn (lv_sub hl [0, 1, 3, 4] rfl) hw
  · replace hw := hw.2 c108
    refine lv_aload_n hx hb dX1_answer_106 rfl (lv_at hl 0 rfl) ?_
    refine x_aloadO hx hb dX1_answer_107 (lv_at hl 3 rfl) ?_
    cases x4 with
    | none =>
      replace hw := hw.1 rfl
      refine lv_ifnonnullN hx hb dX1_answer_109 ?_
      refine lv_sipush (v := 135) hx hb dX1_answer_112 (by decide) ?_
      refine lv_goto (tgt := 121) hx hb dX1_answer_115 (by decide) ?_
      exact kX1_answer_b121 C hR hS hk hn (lv_sub hl [0, 1, 3, 4] rfl) hw
    | some a119 =>
      replace hw := hw.2 a119 rfl
      refine lv_ifnonnull (tgt := 118) hx hb dX1_answer_109 (by decide) ?_
      refine lv_sipush (v := 134) hx hb dX1_answer_118 (by decide) ?_
      exact kX1_answer_b121 C hR hS hk hn (lv_sub hl [0, 1, 3, 4] rfl) hw
def wX1_answer_b82 (post : (Nat → Int32) → (Nat → Nat → Int32) → x_H → Prop) (gp : Nat → Nat) (ad : Nat → Nat) (p1 : Nat) (F : (Nat → Int32)) (M : (Nat → Nat → Int32)) (h : x_H) (mc : Nat) (ms : Nat) (x3 : Int32) (x4 : Option Nat) (x5 : Int32) (s0 : Int32) : Prop :=
  (x5 = 0 → wX1_answer_b94 post gp ad p1 F M h mc ms x3 x4 x5 1 s0) ∧ (¬ x5 = 0 → wX1_answer_b94 post gp ad p1 F M h mc ms x3 x4 x5 0 s0)
theorem kX1_answer_b82 {post : (Nat → Int32) → (Nat → Nat → Int32) → x_H → Prop} {p1 : Nat} (C : x_C p s m args meth c cX1_answer 6 none RX1 D N0 gp) {F : (Nat → Int32)} {M : (Nat → Nat → Int32)} {h : x_H} {mc : Nat} {ms : Nat} {x3 : Int32} {x4 : Option Nat} {x5 : Int32} {s0 : Int32} {k n : Nat} {H : Heap} {locs : List Loc} {ls : Array Slot} (hR : x_R D s N0 (fixC ad F M ++ XF) h H) (hS : va_S (x_A N0) s.heap H locs) (hk : k + mc ≤ mc0) (hn : n + ms ≤ ms0) (hl : lv_has ls 6 [(0, .ref (ad 1000)), (1, .ref p1), (3, .int x3), (4, va_rf x4), (5, .int x5)]) (hw : wX1_answer_b82 post gp ad p1 F M h mc ms x3 x4 x5 s0) : W p l e (rmX1_answer mc0 ms0) s m args below meth c H locs k n (MQ below (x_Qc D N0 (x_Vv (qCv ad XF post))) args s mc0 ms0 (x_A N0)) (F0 m 82 ls [.int s0, .ref (ad 1000)]) := by
  obtain ⟨⟨hx, hb, hml, hown, hts⟩, hr, hlocks, hG, hN⟩ := id C
  unfold wX1_answer_b82 at hw
  refine lv_iconst (v := 1) hx hb dX1_answer_82 (by decide) ?_
  refine lv_iconst (v := 4) hx hb dX1_answer_83 (by decide) ?_
  refine lv_iload hx hb dX1_answer_84 (lv_at hl 4 rfl) ?_
  refine lv_if_ne (tgt := 93) hx hb dX1_answer_86 (by decide) (fun c103 => ?_) (fun c103 => ?_)
  · replace hw := hw.2 c103
    refine lv_iconst (v := 0) hx hb dX1_answer_93 (by decide) ?_
    exact kX1_answer_b94 C hR hS hk hn (lv_sub hl [0, 1, 2, 3, 4] rfl) hw
  · replace hw := hw.1 c103
    refine lv_iconst (v := 1) hx hb dX1_answer_89 (by decide) ?_
    refine lv_goto (tgt := 94) hx hb dX1_answer_90 (by decide) ?_
    exact kX1_answer_b94 C hR hS hk hn (lv_sub hl [0, 1, 2, 3, 4] rfl) hw
def wX1_answer_b70 (post : (Nat → Int32) → (Nat → Nat → Int32) → x_H → Prop) (gp : Nat → Nat) (ad : Nat → Nat) (p1 : Nat) (F : (Nat → Int32)) (M : (Nat → Nat → Int32)) (h : x_H) (mc : Nat) (ms : Nat) (x3 : Int32) (x4 : Option Nat) (s0 : Int32) : Prop :=
  (x3 = 0 → wX1_answer_b82 post gp ad p1 F M h mc ms x3 x4 s0 5) ∧ (¬ x3 = 0 → wX1_answer_b82 post gp ad p1 F M h mc ms x3 x4 s0 1)
theorem kX1_answer_b70 {post : (Nat → Int32) → (Nat → Nat → Int32) → x_H → Prop} {p1 : Nat} (C : x_C p s m args meth c cX1_answer 6 none RX1 D N0 gp) {F : (Nat → Int32)} {M : (Nat → Nat → Int32)} {h : x_H} {mc : Nat} {ms : Nat} {x3 : Int32} {x4 : Option Nat} {s0 : Int32} {k n : Nat} {H : Heap} {locs : List Loc} {ls : Array Slot} (hR : x_R D s N0 (fixC ad F M ++ XF) h H) (hS : va_S (x_A N0) s.heap H locs) (hk : k + mc ≤ mc0) (hn : n + ms ≤ ms0) (hl : lv_has ls 6 [(0, .ref (ad 1000)), (1, .ref p1), (3, .int x3), (4, va_rf x4)]) (hw : wX1_answer_b70 post gp ad p1 F M h mc ms x3 x4 s0) : W p l e (rmX1_answer mc0 ms0) s m args below meth c H locs k n (MQ below (x_Qc D N0 (x_Vv (qCv ad XF post))) args s mc0 ms0 (x_A N0)) (F0 m 70 ls [.int s0]) := by
  obtain ⟨⟨hx, hb, hml, hown, hts⟩, hr, hlocks, hG, hN⟩ := id C
  unfold wX1_answer_b70 at hw
  refine lv_istore (lv' := [(5, .int s0), (0, .ref (ad 1000)), (1, .ref p1), (3, .int x3), (4, va_rf x4)]) hx hb dX1_answer_70 hl (by decide) (by simp only [List.filter_cons, List.filter_nil, x_cat1]; rfl) (fun ls hl => ?_)
  refine lv_aload_n hx hb dX1_answer_72 rfl (lv_at hl 1 rfl) ?_
  refine lv_iload_n hx hb dX1_answer_73 rfl (lv_at hl 3 rfl) ?_
  refine lv_if_eq (tgt := 81) hx hb dX1_answer_74 (by decide) (fun c102 => ?_) (fun c102 => ?_)
  · replace hw := hw.1 c102
    refine lv_iconst (v := 5) hx hb dX1_answer_81 (by decide) ?_
    exact kX1_answer_b82 C hR hS hk hn (lv_sub hl [1, 2, 3, 4, 0] rfl) hw
  · replace hw := hw.2 c102
    refine lv_iconst (v := 1) hx hb dX1_answer_77 (by decide) ?_
    refine lv_goto (tgt := 82) hx hb dX1_answer_78 (by decide) ?_
    exact kX1_answer_b82 C hR hS hk hn (lv_sub hl [1, 2, 3, 4, 0] rfl) hw
def wX1_answer_b61 (post : (Nat → Int32) → (Nat → Nat → Int32) → x_H → Prop) (gp : Nat → Nat) (ad : Nat → Nat) (p1 : Nat) (F : (Nat → Int32)) (M : (Nat → Nat → Int32)) (h : x_H) (mc : Nat) (ms : Nat) (x3 : Int32) (x4 : Option Nat) : Prop :=
  wX1_answer_b70 post gp ad p1 F M h mc ms x3 x4 0
theorem kX1_answer_b61 {post : (Nat → Int32) → (Nat → Nat → Int32) → x_H → Prop} {p1 : Nat} (C : x_C p s m args meth c cX1_answer 6 none RX1 D N0 gp) {F : (Nat → Int32)} {M : (Nat → Nat → Int32)} {h : x_H} {mc : Nat} {ms : Nat} {x3 : Int32} {x4 : Option Nat} {k n : Nat} {H : Heap} {locs : List Loc} {ls : Array Slot} (hR : x_R D s N0 (fixC ad F M ++ XF) h H) (hS : va_S (x_A N0) s.heap H locs) (hk : k + mc ≤ mc0) (hn : n + ms ≤ ms0) (hl : lv_has ls 6 [(0, .ref (ad 1000)), (1, .ref p1), (3, .int x3), (4, va_rf x4)]) (hw : wX1_answer_b61 post gp ad p1 F M h mc ms x3 x4) : W p l e (rmX1_answer mc0 ms0) s m args below meth c H locs k n (MQ below (x_Qc D N0 (x_Vv (qCv ad XF post))) args s mc0 ms0 (x_A N0)) (F0 m 61 ls []) := by
  obtain ⟨⟨hx, hb, hml, hown, hts⟩, hr, hlocks, hG, hN⟩ := id C
  unfold wX1_answer_b61 at hw
  refine lv_iconst (v := 0) hx hb dX1_answer_61 (by decide) ?_
  refine lv_goto (tgt := 70) hx hb dX1_answer_62 (by decide) ?_
  exact kX1_answer_b70 C hR hS hk hn (lv_sub hl [0, 1, 2, 3] rfl) hw
def wX1_answer_b50 (post : (Nat → Int32) → (Nat → Nat → Int32) → x_H → Prop) (gp : Nat → Nat) (ad : Nat → Nat) (p1 : Nat) (F : (Nat → Int32)) (M : (Nat → Nat → Int32)) (h : x_H) (mc : Nat) (ms : Nat) (x2 : Int32) (x3 : Int32) (s0 : Option Nat) : Prop :=
  (x2 = 0 → (s0 = none → wX1_answer_b61 post gp ad p1 F M h mc ms x3 none) ∧ (∀ a97 : Nat, s0 = some a97 → ∃ (t99 : Nat) (fs100 : List Value), h a97 = some (t99, .inr (6, fs100)) ∧ wX7_size (fun r98 => wX1_answer_b70 post gp ad p1 F M h mc ms x3 (some a97) r98) a97 h)) ∧ (¬ x2 = 0 → wX1_answer_b61 post gp ad p1 F M h mc ms x3 s0)
theorem kX1_answer_b50 {post : (Nat → Int32) → (Nat → Nat → Int32) → x_H → Prop} {p1 : Nat} (C : x_C p s m args meth c cX1_answer 6 none RX1 D N0 gp) {F : (Nat → Int32)} {M : (Nat → Nat → Int32)} {h : x_H} {mc : Nat} {ms : Nat} {x2 : Int32} {x3 : Int32} {s0 : Option Nat} {k n : Nat} {H : Heap} {locs : List Loc} {ls : Array Slot} (hR : x_R D s N0 (fixC ad F M ++ XF) h H) (hS : va_S (x_A N0) s.heap H locs) (hk : k + mc ≤ mc0) (hn : n + ms ≤ ms0) (hl : lv_has ls 6 [(0, .ref (ad 1000)), (1, .ref p1), (2, .int x2), (3, .int x3)]) (hw : wX1_answer_b50 post gp ad p1 F M h mc ms x2 x3 s0) : W p l e (rmX1_answer mc0 ms0) s m args below meth c H locs k n (MQ below (x_Qc D N0 (x_Vv (qCv ad XF post))) args s mc0 ms0 (x_A N0)) (F0 m 50 ls [va_rf s0]) := by
  obtain ⟨⟨hx, hb, hml, hown, hts⟩, hr, hlocks, hG, hN⟩ := id C
  unfold wX1_answer_b50 at hw
  refine x_astoreO (lv' := [(4, va_rf s0), (0, .ref (ad 1000)), (1, .ref p1), (2, .int x2), (3, .int x3)]) hx hb dX1_answer_50 hl (by decide) rfl (fun ls hl => ?_)
  refine lv_iload_n hx hb dX1_answer_52 rfl (lv_at hl 3 rfl) ?_
  refine lv_if_ne (tgt := 61) hx hb dX1_answer_53 (by decide) (fun c96 => ?_) (fun c96 => ?_)
  · replace hw := hw.2 c96
    exact kX1_answer_b61 C hR hS hk hn (lv_sub hl [1, 2, 4, 0] rfl) hw
  · replace hw := hw.1 c96
    refine x_aloadO hx hb dX1_answer_56 (lv_at hl 0 rfl) ?_
    cases s0 with
    | none =>
      replace hw := hw.1 rfl
      refine lv_ifnonnullN hx hb dX1_answer_58 ?_
      exact kX1_answer_b61 C hR hS hk hn (lv_sub hl [1, 2, 4, 0] rfl) hw
    | some a97 =>
      replace hw := hw.2 a97 rfl
      refine lv_ifnonnull (tgt := 65) hx hb dX1_answer_58 (by decide) ?_
      refine lv_aload hx hb dX1_answer_65 (lv_at hl 0 rfl) ?_
      obtain ⟨t99, fs100, he101, hw⟩ := hw
      refine x_calli0 (x_runV (n := 0) (As := []) C hR hS (kX7_size l D N0 gp _ a97 h _ hw) (lw_V q652 q653 q654 q113 q655) rfl rfl (by decide +kernel) ⟨Nat.le_of_ble_eq_true rfl, Nat.le_of_ble_eq_true rfl⟩ (x_recv C (hR.rdH he101) rfl) rfl hl.1 rfl (Nat.le_of_ble_eq_true rfl) dX1_answer_67 ⟨x_bud0 hk, x_bud0 hn⟩) hS (fun r98 X1 h1 H locs hq hR hS => ?_)
      clear hw
      obtain ⟨e1, e2, hw⟩ := hq
      rw [e1, e2] at hR
      exact kX1_answer_b70 C hR hS hk hn (lv_sub hl [1, 2, 4, 0] rfl) hw
def wX1_answer_b33 (post : (Nat → Int32) → (Nat → Nat → Int32) → x_H → Prop) (gp : Nat → Nat) (ad : Nat → Nat) (p1 : Nat) (F : (Nat → Int32)) (M : (Nat → Nat → Int32)) (h : x_H) (mc : Nat) (ms : Nat) (x2 : Int32) (s0 : Int32) : Prop :=
  (s0 = 0 → wX1_answer_b50 post gp ad p1 F M h mc ms x2 s0 none) ∧ (¬ s0 = 0 → ∃ v93 : Option Nat, x_f h p1 4 8 (va_rf v93) ∧ ∃ a94 : Nat, v93 = some a94 ∧ wX1_pageAt (fun r95 => wX1_answer_b50 post gp ad p1 F M h mc ms x2 s0 r95) ad a94 F M h)
theorem kX1_answer_b33 {post : (Nat → Int32) → (Nat → Nat → Int32) → x_H → Prop} {p1 : Nat} (C : x_C p s m args meth c cX1_answer 6 none RX1 D N0 gp) {F : (Nat → Int32)} {M : (Nat → Nat → Int32)} {h : x_H} {mc : Nat} {ms : Nat} {x2 : Int32} {s0 : Int32} {k n : Nat} {H : Heap} {locs : List Loc} {ls : Array Slot} (hR : x_R D s N0 (fixC ad F M ++ XF) h H) (hS : va_S (x_A N0) s.heap H locs) (hk : k + mc ≤ mc0) (hn : n + ms ≤ ms0) (hl : lv_has ls 6 [(0, .ref (ad 1000)), (1, .ref p1), (2, .int x2)]) (hw : wX1_answer_b33 post gp ad p1 F M h mc ms x2 s0) : W p l e (rmX1_answer mc0 ms0) s m args below meth c H locs k n (MQ below (x_Qc D N0 (x_Vv (qCv ad XF post))) args s mc0 ms0 (x_A N0)) (F0 m 33 ls [.int s0]) := by
  obtain ⟨⟨hx, hb, hml, hown, hts⟩, hr, hlocks, hG, hN⟩ := id C
  unfold wX1_answer_b33 at hw
  refine lv_istore_n (lv' := [(3, .int s0), (0, .ref (ad 1000)), (1, .ref p1), (2, .int x2)]) hx hb dX1_answer_33 rfl hl (by decide) rfl (fun ls hl => ?_)
  refine lv_iload_n hx hb dX1_answer_34 rfl (lv_at hl 0 rfl) ?_
  refine lv_if_eq (tgt := 49) hx hb dX1_answer_35 (by decide) (fun c91 => ?_) (fun c91 => ?_)
  · replace hw := hw.1 c91
    refine lv_null hx hb dX1_answer_49 ?_
    exact kX1_answer_b50 C hR hS hk hn (lv_sub hl [1, 2, 3, 0] rfl) hw
  · replace hw := hw.2 c91
    refine lv_aload_n hx hb dX1_answer_38 rfl (lv_at hl 1 rfl) ?_
    refine lv_aload_n hx hb dX1_answer_39 rfl (lv_at hl 2 rfl) ?_
    obtain ⟨v93, hf92, hw⟩ := hw
    refine x_getHN (ci := 4) (Cn := RX5) (T := TX5) (N := 9) (k := 8) C hR hf92 rfl in_X5 (by decide) (x_nest C q333 rfl) (fun _ h9 => h9) dX1_answer_40 ?_
    obtain ⟨a94, ea94, hw⟩ := hw
    rw [ea94]
    refine x_calla0 (x_runV (n := 1) (As := [.ref a94]) C hR hS (kX1_pageAt l D N0 gp ad XF a94 F M h _ hw) (lw_V q643 q645 qs22 q85 q646) rfl rfl (by decide +kernel) ⟨Nat.le_of_ble_eq_true rfl, Nat.le_of_ble_eq_true rfl⟩ (x_recv C (hR.rdX 0 rfl) rfl) rfl hl.1 rfl (Nat.le_of_ble_eq_true rfl) dX1_answer_43 ⟨x_bud0 hk, x_bud0 hn⟩) hS (fun r95 X1 h1 H locs hq hR hS => ?_)
    clear hw
    obtain ⟨e1, e2, hw⟩ := hq
    rw [e1, e2] at hR
    refine lv_goto (tgt := 50) hx hb dX1_answer_46 (by decide) ?_
    exact kX1_answer_b50 C hR hS hk hn (lv_sub hl [1, 2, 3, 0] rfl) hw
def wX1_answer_b28 (post : (Nat → Int32) → (Nat → Nat → Int32) → x_H → Prop) (gp : Nat → Nat) (ad : Nat → Nat) (p1 : Nat) (F : (Nat → Int32)) (M : (Nat → Nat → Int32)) (h : x_H) (mc : Nat) (ms : Nat) (x2 : Int32) : Prop :=
  wX1_answer_b33 post gp ad p1 F M h mc ms x2 1
theorem kX1_answer_b28 {post : (Nat → Int32) → (Nat → Nat → Int32) → x_H → Prop} {p1 : Nat} (C : x_C p s m args meth c cX1_answer 6 none RX1 D N0 gp) {F : (Nat → Int32)} {M : (Nat → Nat → Int32)} {h : x_H} {mc : Nat} {ms : Nat} {x2 : Int32} {k n : Nat} {H : Heap} {locs : List Loc} {ls : Array Slot} (hR : x_R D s N0 (fixC ad F M ++ XF) h H) (hS : va_S (x_A N0) s.heap H locs) (hk : k + mc ≤ mc0) (hn : n + ms ≤ ms0) (hl : lv_has ls 6 [(0, .ref (ad 1000)), (1, .ref p1), (2, .int x2)]) (hw : wX1_answer_b28 post gp ad p1 F M h mc ms x2) : W p l e (rmX1_answer mc0 ms0) s m args below meth c H locs k n (MQ below (x_Qc D N0 (x_Vv (qCv ad XF post))) args s mc0 ms0 (x_A N0)) (F0 m 28 ls []) := by
  obtain ⟨⟨hx, hb, hml, hown, hts⟩, hr, hlocks, hG, hN⟩ := id C
  unfold wX1_answer_b28 at hw
  refine lv_iconst (v := 1) hx hb dX1_answer_28 (by decide) ?_
  refine lv_goto (tgt := 33) hx hb dX1_answer_29 (by decide) ?_
  exact kX1_answer_b33 C hR hS hk hn (lv_sub hl [0, 1, 2] rfl) hw
end
def wX1_answer (post : (Nat → Int32) → (Nat → Nat → Int32) → x_H → Prop) (gp : Nat → Nat) (ad : Nat → Nat) (p1 : Nat) (F : (Nat → Int32)) (M : (Nat → Nat → Int32)) (h : x_H) (mc : Nat) (ms : Nat) : Prop :=
  ∃ v76 : Option Nat, x_f h p1 4 7 (va_rf v76) ∧ ∃ a77 : Nat, v76 = some a77 ∧ ∃ (t79 : Nat) (fs80 : List Value), h a77 = some (t79, .inr (9, fs80)) ∧ wJ9_equals (fun r78 => (r78 = 0 → ∃ v84 : Option Nat, x_f h p1 4 7 (va_rf v84) ∧ ∃ a85 : Nat, v84 = some a85 ∧ ∃ (t87 : Nat) (fs88 : List Value), h a85 = some (t87, .inr (9, fs88)) ∧ wJ9_equals (fun r86 => (r86 = 0 → wX1_answer_b33 post gp ad p1 F M h mc ms r78 0) ∧ (¬ r86 = 0 → wX1_answer_b28 post gp ad p1 F M h mc ms r78)) a85 (gp 11) h) ∧ (¬ r78 = 0 → wX1_answer_b28 post gp ad p1 F M h mc ms r78)) a77 (gp 12) h
theorem kX1_answer (l : Launch) (D : va_G) (N0 : Nat) (gp : Nat → Nat) (ad : Nat → Nat) (XF : x_X) (p1 : Nat) (F : (Nat → Int32)) (M : (Nat → Nat → Int32)) (h : x_H) (mc : Nat) (ms : Nat) (post : (Nat → Int32) → (Nat → Nat → Int32) → x_H → Prop) (hw : wX1_answer post gp ad p1 F M h mc ms) : Met l yX1_answer (ws_ yX1_answer cX1_answer 6 none) (rmX1_answer mc ms) (x_Pc D N0 gp (fixC ad F M ++ XF) h [.ref (ad 1000), .ref p1]) (x_Qc D N0 (x_Vv (qCv ad XF post))) mc ms (x_A N0) := by
  refine x_start (lv := [(0, .ref (ad 1000)), (1, .ref p1)]) (by decide) rfl (Nat.le_of_ble_eq_true rfl) rfl ?_
  intro p e s m below meth c C hR ls hl
  have hS : va_S (x_A N0) s.heap s.heap [] := va_S.rf
  obtain ⟨⟨hx, hb, hml, hown, hts⟩, hr, hlocks, hG, hN⟩ := id C
  unfold wX1_answer at hw
  have hk : 0 + mc ≤ mc := Nat.le_of_eq (Nat.zero_add _)
  have hn : 0 + ms ≤ ms := Nat.le_of_eq (Nat.zero_add _)
  refine lv_aload_n hx hb dX1_answer_0 rfl (lv_at hl 1 rfl) ?_
  obtain ⟨v76, hf75, hw⟩ := hw
  refine x_getHN (ci := 4) (Cn := RX5) (T := TX5) (N := 9) (k := 7) C hR hf75 rfl in_X5 (by decide) (x_nest C q332 rfl) (fun _ h9 => h9) dX1_answer_1 ?_
  refine x_ldcSW (tx := "HEAD") (k := 12) C (by decide) dX1_answer_4 ?_
  obtain ⟨a77, ea77, hw⟩ := hw
  rw [ea77]
  obtain ⟨t79, fs80, he81, hw⟩ := hw
  refine x_calli0 (x_runV (n := 1) (As := [.ref (gp 12)]) C hR hS (kJ9_equals l D N0 gp _ a77 (gp 12) h _ hw) (lw_V q633 q634 q635 q99 q636) rfl rfl (by decide +kernel) ⟨Nat.le_of_ble_eq_true rfl, Nat.le_of_ble_eq_true rfl⟩ (x_recv C (hR.rdH he81) rfl) rfl hl.1 rfl (Nat.le_of_ble_eq_true rfl) dX1_answer_7 ⟨x_bud0 hk, x_bud0 hn⟩) hS (fun r78 X1 h1 H locs hq hR hS => ?_)
  clear hw
  obtain ⟨e1, e2, hw⟩ := hq
  rw [e1, e2] at hR
  refine lv_istore_n (lv' := [(2, .int r78), (0, .ref (ad 1000)), (1, .ref p1)]) hx hb dX1_answer_10 rfl hl (by decide) rfl (fun ls hl => ?_)
  refine lv_iload_n hx hb dX1_answer_11 rfl (lv_at hl 0 rfl) ?_
  refine lv_if_ne (tgt := 28) hx hb dX1_answer_12 (by decide) (fun c82 => ?_) (fun c82 => ?_)
  · replace hw := hw.2 c82
    exact kX1_answer_b28 C hR hS hk hn (lv_sub hl [1, 2, 0] rfl) hw
  · replace hw := hw.1 c82
    refine lv_aload_n hx hb dX1_answer_15 rfl (lv_at hl 2 rfl) ?_
    obtain ⟨v84, hf83, hw⟩ := hw
    refine x_getHN (ci := 4) (Cn := RX5) (T := TX5) (N := 9) (k := 7) C hR hf83 rfl in_X5 (by decide) (x_nest C q332 rfl) (fun _ h9 => h9) dX1_answer_16 ?_
    refine x_ldcSW (tx := "GET") (k := 11) C (by decide) dX1_answer_19 ?_
    obtain ⟨a85, ea85, hw⟩ := hw
    rw [ea85]
    obtain ⟨t87, fs88, he89, hw⟩ := hw
    refine x_calli0 (x_runV (n := 1) (As := [.ref (gp 11)]) C hR hS (kJ9_equals l D N0 gp _ a85 (gp 11) h _ hw) (lw_V q633 q634 q635 q99 q636) rfl rfl (by decide +kernel) ⟨Nat.le_of_ble_eq_true rfl, Nat.le_of_ble_eq_true rfl⟩ (x_recv C (hR.rdH he89) rfl) rfl hl.1 rfl (Nat.le_of_ble_eq_true rfl) dX1_answer_22 ⟨x_bud0 hk, x_bud0 hn⟩) hS (fun r86 X1 h1 H locs hq hR hS => ?_)
    clear hw
    obtain ⟨e1, e2, hw⟩ := hq
    rw [e1, e2] at hR
    refine lv_if_eq (tgt := 32) hx hb dX1_answer_25 (by decide) (fun c90 => ?_) (fun c90 => ?_)
    · replace hw := hw.1 c90
      refine lv_iconst (v := 0) hx hb dX1_answer_32 (by decide) ?_
      exact kX1_answer_b33 C hR hS hk hn (lv_sub hl [1, 2, 0] rfl) hw
    · replace hw := hw.2 c90
      exact kX1_answer_b28 C hR hS hk hn (lv_sub hl [1, 2, 0] rfl) hw
/-- PageServer.close(LPageServer$Stream;)V -/
abbrev rmX1_close (mc0 ms0 : Nat) : Room := { frames := 9, cells := mc0, slots := ms0, locals := 219 }
section
variable {p : Program} {l : Launch} {e : Env} {s : State} {m : MethodId} {args : Array Value} {below : List Frame} {meth : Method} {c : Code} {D : va_G} {N0 : Nat} {gp : Nat → Nat} {ad : Nat → Nat} {XF : x_X} {mc0 ms0 : Nat}
def wX1_close_b30 (post : (Nat → Int32) → (Nat → Nat → Int32) → x_H → Prop) (postX : String → (Nat → Int32) → (Nat → Nat → Int32) → x_H → Prop) (gp : Nat → Nat) (ad : Nat → Nat) (p1 : Nat) (F : (Nat → Int32)) (M : (Nat → Nat → Int32)) (h : x_H) (mc : Nat) (ms : Nat) (s0 : Int32) : Prop :=
  ∃ ca41 cb42 mc43 ms44 : Nat, ca41 + mc43 ≤ mc ∧ cb42 + ms44 ≤ ms ∧ wX1_want (fun F45 M45 h46 => ∃ ca47 cb48 mc49 ms50 : Nat, ca47 + mc49 ≤ mc43 ∧ cb48 + ms50 ≤ ms44 ∧ wX1_answer (fun F51 M51 h52 => post F51 M51 h52) gp ad p1 F45 M45 h46 ca47 cb48) postX ad s0 1 F M h ca41 cb42
theorem kX1_close_b30 {post : (Nat → Int32) → (Nat → Nat → Int32) → x_H → Prop} {postX : String → (Nat → Int32) → (Nat → Nat → Int32) → x_H → Prop} {p1 : Nat} (C : x_C p s m args meth c cX1_close 2 none RX1 D N0 gp) (hlt : l.stackTraces = false) (hxt : ∀ x ∈ c.exceptionTable.toList, False) {F : (Nat → Int32)} {M : (Nat → Nat → Int32)} {h : x_H} {mc : Nat} {ms : Nat} {s0 : Int32} {k n : Nat} {H : Heap} {locs : List Loc} {ls : Array Slot} (hR : x_R D s N0 (fixC ad F M ++ XF) h H) (hS : va_S (x_A N0) s.heap H locs) (hk : k + mc ≤ mc0) (hn : n + ms ≤ ms0) (hl : lv_has ls 2 [(0, .ref (ad 1000)), (1, .ref p1)]) (hw : wX1_close_b30 post postX gp ad p1 F M h mc ms s0) : W p l e (rmX1_close mc0 ms0) s m args below meth c H locs k n (vx_MQ below (x_Qc D N0 (x_Vv (qCv ad XF post))) (x_XC D N0 (qXC ad XF postX)) args s mc0 ms0 (x_A N0)) (F0 m 30 ls [.int s0, .ref (ad 1000)]) := by
  obtain ⟨⟨hx, hb, hml, hown, hts⟩, hr, hlocks, hG, hN⟩ := id C
  unfold wX1_close_b30 at hw
  refine lv_iconst (v := 1) hx hb dX1_close_30 (by decide) ?_
  obtain ⟨ca41, cb42, mc43, ms44, hca41, hcb42, hw⟩ := hw
  refine x_callXv (x_runVX (n := 2) (As := [.int s0, .int 1]) C hR hS (kX1_want l D N0 gp ad XF s0 1 F M h ca41 cb42 _ _ hlt hw) (lw_V q606 q608 qs19 q85 q609) rfl rfl (by decide +kernel) ⟨Nat.le_of_ble_eq_true rfl, Nat.le_of_ble_eq_true rfl⟩ (x_recv C (hR.rdX 0 rfl) rfl) rfl hl.1 rfl (Nat.le_of_ble_eq_true rfl) dX1_close_31 ⟨x_bud hk hca41, x_bud hn hcb42⟩) hS (fun E9 ce9 q9 X9 h9 H9 locs9 hq9 hR9 hS9 hce9 hcv9 hcl9 => by obtain ⟨F9, M9, e9, hq9⟩ := hq9; rw [e9] at hR9; exact x_outX C hxt hR9 hS9 ⟨_, _, rfl, hq9⟩ hce9 hcv9 hcl9 (x_bud hk hca41) (x_bud hn hcb42)) (fun X1 h46 H locs hq hR hS => ?_)
  clear hw
  obtain ⟨F45, M45, e1, hw⟩ := hq
  rw [e1] at hR
  have hk := x_budN hk hca41
  have hn := x_budN hn hcb42
  refine lv_aload_n hx hb dX1_close_34 rfl (lv_at hl 0 rfl) ?_
  refine lv_aload_n hx hb dX1_close_35 rfl (lv_at hl 1 rfl) ?_
  obtain ⟨ca47, cb48, mc49, ms50, hca47, hcb48, hw⟩ := hw
  refine x_callv (x_runV (n := 1) (As := [.ref p1]) C hR hS (kX1_answer l D N0 gp ad XF p1 F45 M45 h46 ca47 cb48 _ hw) (lw_V q628 q630 qs21 q85 q631) rfl rfl (by decide +kernel) ⟨Nat.le_of_ble_eq_true rfl, Nat.le_of_ble_eq_true rfl⟩ (x_recv C (hR.rdX 0 rfl) rfl) rfl hl.1 rfl (Nat.le_of_ble_eq_true rfl) dX1_close_36 ⟨x_bud hk hca47, x_bud hn hcb48⟩) hS (fun X1 h52 H locs hq hR hS => ?_)
  clear hw
  obtain ⟨F51, M51, e1, hw⟩ := hq
  rw [e1] at hR
  have hk := x_budN hk hca47
  have hn := x_budN hn hcb48
  exact vx_ret (x_endv C hR hS ⟨rfl, ⟨_, _, rfl, hw⟩⟩ (x_le hk) (x_le hn) dX1_close_39)
def wX1_close_b25 (post : (Nat → Int32) → (Nat → Nat → Int32) → x_H → Prop) (postX : String → (Nat → Int32) → (Nat → Nat → Int32) → x_H → Prop) (gp : Nat → Nat) (ad : Nat → Nat) (p1 : Nat) (F : (Nat → Int32)) (M : (Nat → Nat → Int32)) (h : x_H) (mc : Nat) (ms : Nat) : Prop :=
  wX1_close_b30 post postX gp ad p1 F M h mc ms 1
theorem kX1_close_b25 {post : (Nat → Int32) → (Nat → Nat → Int32) → x_H → Prop} {postX : String → (Nat → Int32) → (Nat → Nat → Int32) → x_H → Prop} {p1 : Nat} (C : x_C p s m args meth c cX1_close 2 none RX1 D N0 gp) (hlt : l.stackTraces = false) (hxt : ∀ x ∈ c.exceptionTable.toList, False) {F : (Nat → Int32)} {M : (Nat → Nat → Int32)} {h : x_H} {mc : Nat} {ms : Nat} {k n : Nat} {H : Heap} {locs : List Loc} {ls : Array Slot} (hR : x_R D s N0 (fixC ad F M ++ XF) h H) (hS : va_S (x_A N0) s.heap H locs) (hk : k + mc ≤ mc0) (hn : n + ms ≤ ms0) (hl : lv_has ls 2 [(0, .ref (ad 1000)), (1, .ref p1)]) (hw : wX1_close_b25 post postX gp ad p1 F M h mc ms) : W p l e (rmX1_close mc0 ms0) s m args below meth c H locs k n (vx_MQ below (x_Qc D N0 (x_Vv (qCv ad XF post))) (x_XC D N0 (qXC ad XF postX)) args s mc0 ms0 (x_A N0)) (F0 m 25 ls [.ref (ad 1000)]) := by
  obtain ⟨⟨hx, hb, hml, hown, hts⟩, hr, hlocks, hG, hN⟩ := id C
  unfold wX1_close_b25 at hw
  refine lv_iconst (v := 1) hx hb dX1_close_25 (by decide) ?_
  refine lv_goto (tgt := 30) hx hb dX1_close_26 (by decide) ?_
  exact kX1_close_b30 C hlt hxt hR hS hk hn (lv_sub hl [0, 1] rfl) hw
end
def wX1_close (post : (Nat → Int32) → (Nat → Nat → Int32) → x_H → Prop) (postX : String → (Nat → Int32) → (Nat → Nat → Int32) → x_H → Prop) (gp : Nat → Nat) (ad : Nat → Nat) (p1 : Nat) (F : (Nat → Int32)) (M : (Nat → Nat → Int32)) (h : x_H) (mc : Nat) (ms : Nat) : Prop :=
  ∃ (t27 : Nat) (fs28 : List Value), h p1 = some (t27, .inr (4, fs28)) ∧ t27 ≠ 1 ∧ 6 < fs28.length ∧ ∀ h32 : x_H, h32 = x_hs h p1 t27 (.inr (4, fs28.set 6 (.int 1))) → ∃ y34 : Int32, x_f h32 p1 4 3 (.int y34) ∧ (y34 = (-1) → wX1_close_b25 post postX gp ad p1 F M h32 mc ms) ∧ (¬ y34 = (-1) → ∃ y37 : Int32, x_f h32 p1 4 3 (.int y37) ∧ ∃ y39 : Int32, x_f h32 p1 4 2 (.int y39) ∧ (y37 = y39 → wX1_close_b25 post postX gp ad p1 F M h32 mc ms) ∧ (¬ y37 = y39 → wX1_close_b30 post postX gp ad p1 F M h32 mc ms 0))
theorem kX1_close (l : Launch) (D : va_G) (N0 : Nat) (gp : Nat → Nat) (ad : Nat → Nat) (XF : x_X) (p1 : Nat) (F : (Nat → Int32)) (M : (Nat → Nat → Int32)) (h : x_H) (mc : Nat) (ms : Nat) (post : (Nat → Int32) → (Nat → Nat → Int32) → x_H → Prop) (postX : String → (Nat → Int32) → (Nat → Nat → Int32) → x_H → Prop) (hlt : l.stackTraces = false) (hw : wX1_close post postX gp ad p1 F M h mc ms) : vx_Met l yX1_close (ws_ yX1_close cX1_close 2 none) (rmX1_close mc ms) (x_Pc D N0 gp (fixC ad F M ++ XF) h [.ref (ad 1000), .ref p1]) (x_Qc D N0 (x_Vv (qCv ad XF post))) (x_XC D N0 (qXC ad XF postX)) mc ms (x_A N0) := by
  refine x_startX (lv := [(0, .ref (ad 1000)), (1, .ref p1)]) (by decide) rfl (Nat.le_of_ble_eq_true rfl) rfl ?_
  intro p e s m below meth c C hxt hR ls hl
  have hS : va_S (x_A N0) s.heap s.heap [] := va_S.rf
  obtain ⟨⟨hx, hb, hml, hown, hts⟩, hr, hlocks, hG, hN⟩ := id C
  unfold wX1_close at hw
  have hk : 0 + mc ≤ mc := Nat.le_of_eq (Nat.zero_add _)
  have hn : 0 + ms ≤ ms := Nat.le_of_eq (Nat.zero_add _)
  refine lv_aload_n hx hb dX1_close_0 rfl (lv_at hl 1 rfl) ?_
  refine lv_iconst (v := 1) hx hb dX1_close_1 (by decide) ?_
  obtain ⟨t27, fs28, he29, ht30, hl31, hw⟩ := hw
  refine x_putHN (ci := 4) (Cn := RX5) (T := TX5) (N := 9) (v := .int 1) C hR hS he29 ht30 rfl in_X5 tyX5_ok nmX5 6 (by decide) (x_nest C q331 rfl) (fun _ h9 => h9) rfl rfl rfl hl31 dX1_close_2 (fun H locs hR hS => ?_)
  obtain ⟨h32, eh32⟩ : ∃ z, z = x_hs h p1 t27 (.inr (4, fs28.set 6 (.int 1))) := ⟨_, rfl⟩
  rw [← eh32] at hR
  replace hw := hw h32 eh32
  refine lv_aload_n hx hb dX1_close_5 rfl (lv_at hl 0 rfl) ?_
  refine lv_aload_n hx hb dX1_close_6 rfl (lv_at hl 1 rfl) ?_
  obtain ⟨y34, hf33, hw⟩ := hw
  refine x_getHN (ci := 4) (Cn := RX5) (T := TX5) (N := 9) (k := 3) C hR hf33 rfl in_X5 (by decide) (x_nest C q326 rfl) (fun _ h9 => h9) dX1_close_7 ?_
  refine lv_iconst (v := -1) hx hb dX1_close_10 (by decide) ?_
  refine lv_icmp_eq (tgt := 25) hx hb dX1_close_11 (by decide) (fun c35 => ?_) (fun c35 => ?_)
  · replace hw := hw.1 c35
    exact kX1_close_b25 C hlt hxt hR hS hk hn (lv_sub hl [0, 1] rfl) hw
  · replace hw := hw.2 c35
    refine lv_aload_n hx hb dX1_close_14 rfl (lv_at hl 1 rfl) ?_
    obtain ⟨y37, hf36, hw⟩ := hw
    refine x_getHN (ci := 4) (Cn := RX5) (T := TX5) (N := 9) (k := 3) C hR hf36 rfl in_X5 (by decide) (x_nest C q326 rfl) (fun _ h9 => h9) dX1_close_15 ?_
    refine lv_aload_n hx hb dX1_close_18 rfl (lv_at hl 1 rfl) ?_
    obtain ⟨y39, hf38, hw⟩ := hw
    refine x_getHN (ci := 4) (Cn := RX5) (T := TX5) (N := 9) (k := 2) C hR hf38 rfl in_X5 (by decide) (x_nest C q324 rfl) (fun _ h9 => h9) dX1_close_19 ?_
    refine lv_icmp_ne (tgt := 29) hx hb dX1_close_22 (by decide) (fun c40 => ?_) (fun c40 => ?_)
    · replace hw := hw.2 c40
      refine lv_iconst (v := 0) hx hb dX1_close_29 (by decide) ?_
      exact kX1_close_b30 C hlt hxt hR hS hk hn (lv_sub hl [0, 1] rfl) hw
    · replace hw := hw.1 c40
      exact kX1_close_b25 C hlt hxt hR hS hk hn (lv_sub hl [0, 1] rfl) hw
/-- PageServer.data()V -/
abbrev rmX1_data (mc0 ms0 : Nat) : Room := { frames := 10, cells := mc0, slots := ms0, locals := 240 }
section
variable {p : Program} {l : Launch} {e : Env} {s : State} {m : MethodId} {args : Array Value} {below : List Frame} {meth : Method} {c : Code} {D : va_G} {N0 : Nat} {gp : Nat → Nat} {ad : Nat → Nat} {XF : x_X} {mc0 ms0 : Nat}
def wX1_data_b169 (post : (Nat → Int32) → (Nat → Nat → Int32) → x_H → Prop) (postX : String → (Nat → Int32) → (Nat → Nat → Int32) → x_H → Prop) (gp : Nat → Nat) (ad : Nat → Nat)  (F : (Nat → Int32)) (M : (Nat → Nat → Int32)) (h : x_H) (mc : Nat) (ms : Nat) : Prop :=
  post F M h
theorem kX1_data_b169 {post : (Nat → Int32) → (Nat → Nat → Int32) → x_H → Prop} {postX : String → (Nat → Int32) → (Nat → Nat → Int32) → x_H → Prop} (C : x_C p s m args meth c cX1_data 2 none RX1 D N0 gp) (hlt : l.stackTraces = false) (hxt : ∀ x ∈ c.exceptionTable.toList, False) {F : (Nat → Int32)} {M : (Nat → Nat → Int32)} {h : x_H} {mc : Nat} {ms : Nat} {k n : Nat} {H : Heap} {locs : List Loc} {ls : Array Slot} (hR : x_R D s N0 (fixC ad F M ++ XF) h H) (hS : va_S (x_A N0) s.heap H locs) (hk : k + mc ≤ mc0) (hn : n + ms ≤ ms0) (hl : lv_has ls 2 []) (hw : wX1_data_b169 post postX gp ad F M h mc ms) : W p l e (rmX1_data mc0 ms0) s m args below meth c H locs k n (vx_MQ below (x_Qc D N0 (x_Vv (qCv ad XF post))) (x_XC D N0 (qXC ad XF postX)) args s mc0 ms0 (x_A N0)) (F0 m 169 ls []) := by
  obtain ⟨⟨hx, hb, hml, hown, hts⟩, hr, hlocks, hG, hN⟩ := id C
  unfold wX1_data_b169 at hw
  exact vx_ret (x_endv C hR hS ⟨rfl, ⟨_, _, rfl, hw⟩⟩ (x_le hk) (x_le hn) dX1_data_169)
def wX1_data_b112 (post : (Nat → Int32) → (Nat → Nat → Int32) → x_H → Prop) (postX : String → (Nat → Int32) → (Nat → Nat → Int32) → x_H → Prop) (gp : Nat → Nat) (ad : Nat → Nat)  (F : (Nat → Int32)) (M : (Nat → Nat → Int32)) (h : x_H) (mc : Nat) (ms : Nat) (x1 : Option Nat) (s0 : Int32) : Prop :=
  ∃ ca101 cb102 mc103 ms104 : Nat, ca101 + mc103 ≤ mc ∧ cb102 + ms104 ≤ ms ∧ wX1_want (fun F105 M105 h106 => ∃ a107 : Nat, x1 = some a107 ∧ ∃ y109 : Int32, x_f h106 a107 4 2 (.int y109) ∧ ∃ (t110 : Nat) (fs111 : List Value), h106 a107 = some (t110, .inr (4, fs111)) ∧ t110 ≠ 1 ∧ 2 < fs111.length ∧ ∀ h115 : x_H, h115 = x_hs h106 a107 t110 (.inr (4, fs111.set 2 (.int (y109 + ((F105 14) - (F105 13)))))) → wX1_has (fun r116 => (r116 = 0 → ((F105 12) ≤ 0 → wX1_data_b169 post postX gp ad F105 M105 h115 mc103 ms104) ∧ (¬ (F105 12) ≤ 0 → wX1_credit (fun F119 M119 h120 => wX1_data_b169 post postX gp ad F119 M119 h120 mc103 ms104) ad (F105 11) (F105 12) F105 M105 h115)) ∧ (¬ r116 = 0 → ∃ ca121 cb122 mc123 ms124 : Nat, ca121 + mc123 ≤ mc103 ∧ cb122 + ms124 ≤ ms104 ∧ wX1_close (fun F125 M125 h126 => wX1_data_b169 post postX gp ad F125 M125 h126 mc123 ms124) postX gp ad a107 F105 M105 h115 ca121 cb122)) ad 1 F105 M105 h115) postX ad s0 3 F M h ca101 cb102
theorem kX1_data_b112 {post : (Nat → Int32) → (Nat → Nat → Int32) → x_H → Prop} {postX : String → (Nat → Int32) → (Nat → Nat → Int32) → x_H → Prop} (C : x_C p s m args meth c cX1_data 2 none RX1 D N0 gp) (hlt : l.stackTraces = false) (hxt : ∀ x ∈ c.exceptionTable.toList, False) {F : (Nat → Int32)} {M : (Nat → Nat → Int32)} {h : x_H} {mc : Nat} {ms : Nat} {x1 : Option Nat} {s0 : Int32} {k n : Nat} {H : Heap} {locs : List Loc} {ls : Array Slot} (hR : x_R D s N0 (fixC ad F M ++ XF) h H) (hS : va_S (x_A N0) s.heap H locs) (hk : k + mc ≤ mc0) (hn : n + ms ≤ ms0) (hl : lv_has ls 2 [(0, .ref (ad 1000)), (1, va_rf x1)]) (hw : wX1_data_b112 post postX gp ad F M h mc ms x1 s0) : W p l e (rmX1_data mc0 ms0) s m args below meth c H locs k n (vx_MQ below (x_Qc D N0 (x_Vv (qCv ad XF post))) (x_XC D N0 (qXC ad XF postX)) args s mc0 ms0 (x_A N0)) (F0 m 112 ls [.int s0, .ref (ad 1000)]) := by
  obtain ⟨⟨hx, hb, hml, hown, hts⟩, hr, hlocks, hG, hN⟩ := id C
  unfold wX1_data_b112 at hw
  refine lv_iconst (v := 3) hx hb dX1_data_112 (by decide) ?_
  obtain ⟨ca101, cb102, mc103, ms104, hca101, hcb102, hw⟩ := hw
  refine x_callXv (x_runVX (n := 2) (As := [.int s0, .int 3]) C hR hS (kX1_want l D N0 gp ad XF s0 3 F M h ca101 cb102 _ _ hlt hw) (lw_V q606 q608 qs19 q85 q609) rfl rfl (by decide +kernel) ⟨Nat.le_of_ble_eq_true rfl, Nat.le_of_ble_eq_true rfl⟩ (x_recv C (hR.rdX 0 rfl) rfl) rfl hl.1 rfl (Nat.le_of_ble_eq_true rfl) dX1_data_113 ⟨x_bud hk hca101, x_bud hn hcb102⟩) hS (fun E9 ce9 q9 X9 h9 H9 locs9 hq9 hR9 hS9 hce9 hcv9 hcl9 => by obtain ⟨F9, M9, e9, hq9⟩ := hq9; rw [e9] at hR9; exact x_outX C hxt hR9 hS9 ⟨_, _, rfl, hq9⟩ hce9 hcv9 hcl9 (x_bud hk hca101) (x_bud hn hcb102)) (fun X1 h106 H locs hq hR hS => ?_)
  clear hw
  obtain ⟨F105, M105, e1, hw⟩ := hq
  rw [e1] at hR
  have hk := x_budN hk hca101
  have hn := x_budN hn hcb102
  refine x_aload_nO hx hb dX1_data_116 rfl (lv_at hl 1 rfl) ?_
  refine lv_dup hx hb dX1_data_117 (x_cat1 _) ?_
  obtain ⟨a107, ea107, hw⟩ := hw
  rw [ea107]
  obtain ⟨y109, hf108, hw⟩ := hw
  refine x_getHN (ci := 4) (Cn := RX5) (T := TX5) (N := 9) (k := 2) C hR hf108 rfl in_X5 (by decide) (x_nest C q324 rfl) (fun _ h9 => h9) dX1_data_118 ?_
  refine lv_aload_n hx hb dX1_data_121 rfl (lv_at hl 0 rfl) ?_
  refine x_get (ci := 0) (Cn := RX1) (T := TX1) (N := 27) (v := .int (F105 14)) C (hR.rdX 0 rfl) rfl in_X1 14 (by decide) q407 (fun _ h9 => h9) rfl dX1_data_122 ?_
  refine lv_aload_n hx hb dX1_data_125 rfl (lv_at hl 0 rfl) ?_
  refine x_get (ci := 0) (Cn := RX1) (T := TX1) (N := 27) (v := .int (F105 13)) C (hR.rdX 0 rfl) rfl in_X1 13 (by decide) q406 (fun _ h9 => h9) rfl dX1_data_126 ?_
  refine lv_isub hx hb dX1_data_129 ?_
  refine lv_iadd hx hb dX1_data_130 ?_
  obtain ⟨t110, fs111, he112, ht113, hl114, hw⟩ := hw
  refine x_putHN (ci := 4) (Cn := RX5) (T := TX5) (N := 9) (v := .int (y109 + ((F105 14) - (F105 13)))) C hR hS he112 ht113 rfl in_X5 tyX5_ok nmX5 2 (by decide) (x_nest C q324 rfl) (fun _ h9 => h9) rfl rfl rfl hl114 dX1_data_131 (fun H locs hR hS => ?_)
  obtain ⟨h115, eh115⟩ : ∃ z, z = x_hs h106 a107 t110 (.inr (4, fs111.set 2 (.int (y109 + ((F105 14) - (F105 13)))))) := ⟨_, rfl⟩
  rw [← eh115] at hR
  replace hw := hw h115 eh115
  refine lv_aload_n hx hb dX1_data_134 rfl (lv_at hl 0 rfl) ?_
  refine lv_iconst (v := 1) hx hb dX1_data_135 (by decide) ?_
  refine x_calli0 (x_runV (n := 1) (As := [.int 1]) C hR hS (kX1_has l D N0 gp ad XF 1 F105 M105 h115 _ hw) (lw_V q503 q505 qs10 q85 q506) rfl rfl (by decide +kernel) ⟨Nat.le_of_ble_eq_true rfl, Nat.le_of_ble_eq_true rfl⟩ (x_recv C (hR.rdX 0 rfl) rfl) rfl hl.1 rfl (Nat.le_of_ble_eq_true rfl) dX1_data_136 ⟨x_bud0 hk, x_bud0 hn⟩) hS (fun r116 X1 h1 H locs hq hR hS => ?_)
  clear hw
  obtain ⟨e1, e2, hw⟩ := hq
  rw [e1, e2] at hR
  refine lv_if_eq (tgt := 150) hx hb dX1_data_139 (by decide) (fun c117 => ?_) (fun c117 => ?_)
  · replace hw := hw.1 c117
    refine lv_aload_n hx hb dX1_data_150 rfl (lv_at hl 0 rfl) ?_
    refine x_get (ci := 0) (Cn := RX1) (T := TX1) (N := 27) (v := .int (F105 12)) C (hR.rdX 0 rfl) rfl in_X1 12 (by decide) q405 (fun _ h9 => h9) rfl dX1_data_151 ?_
    refine lv_if_le (tgt := 169) hx hb dX1_data_154 (by decide) (fun c118 => ?_) (fun c118 => ?_)
    · replace hw := hw.1 c118
      exact kX1_data_b169 C hlt hxt hR hS hk hn (lv_sub hl [] rfl) hw
    · replace hw := hw.2 c118
      refine lv_aload_n hx hb dX1_data_157 rfl (lv_at hl 0 rfl) ?_
      refine lv_aload_n hx hb dX1_data_158 rfl (lv_at hl 0 rfl) ?_
      refine x_get (ci := 0) (Cn := RX1) (T := TX1) (N := 27) (v := .int (F105 11)) C (hR.rdX 0 rfl) rfl in_X1 11 (by decide) q404 (fun _ h9 => h9) rfl dX1_data_159 ?_
      refine lv_aload_n hx hb dX1_data_162 rfl (lv_at hl 0 rfl) ?_
      refine x_get (ci := 0) (Cn := RX1) (T := TX1) (N := 27) (v := .int (F105 12)) C (hR.rdX 0 rfl) rfl in_X1 12 (by decide) q405 (fun _ h9 => h9) rfl dX1_data_163 ?_
      refine x_callv0 (x_runV (n := 2) (As := [.int (F105 11), .int (F105 12)]) C hR hS (kX1_credit l D N0 gp ad XF (F105 11) (F105 12) F105 M105 h115 _ hw) (lw_V q590 q592 qs17 q85 q593) rfl rfl (by decide +kernel) ⟨Nat.le_of_ble_eq_true rfl, Nat.le_of_ble_eq_true rfl⟩ (x_recv C (hR.rdX 0 rfl) rfl) rfl hl.1 rfl (Nat.le_of_ble_eq_true rfl) dX1_data_166 ⟨x_bud0 hk, x_bud0 hn⟩) hS (fun X1 h120 H locs hq hR hS => ?_)
      clear hw
      obtain ⟨F119, M119, e1, hw⟩ := hq
      rw [e1] at hR
      exact kX1_data_b169 C hlt hxt hR hS hk hn (lv_sub hl [] rfl) hw
  · replace hw := hw.2 c117
    refine lv_aload_n hx hb dX1_data_142 rfl (lv_at hl 0 rfl) ?_
    refine x_aload_nO hx hb dX1_data_143 rfl (lv_at hl 1 rfl) ?_
    rw [ea107]
    obtain ⟨ca121, cb122, mc123, ms124, hca121, hcb122, hw⟩ := hw
    refine x_callXv (x_runVX (n := 1) (As := [.ref a107]) C hR hS (kX1_close l D N0 gp ad XF a107 F105 M105 h115 ca121 cb122 _ _ hlt hw) (lw_V q624 q626 qs20 q85 q627) rfl rfl (by decide +kernel) ⟨Nat.le_of_ble_eq_true rfl, Nat.le_of_ble_eq_true rfl⟩ (x_recv C (hR.rdX 0 rfl) rfl) rfl hl.1 rfl (Nat.le_of_ble_eq_true rfl) dX1_data_144 ⟨x_bud hk hca121, x_bud hn hcb122⟩) hS (fun E9 ce9 q9 X9 h9 H9 locs9 hq9 hR9 hS9 hce9 hcv9 hcl9 => by obtain ⟨F9, M9, e9, hq9⟩ := hq9; rw [e9] at hR9; exact x_outX C hxt hR9 hS9 ⟨_, _, rfl, hq9⟩ hce9 hcv9 hcl9 (x_bud hk hca121) (x_bud hn hcb122)) (fun X1 h126 H locs hq hR hS => ?_)
    clear hw
    obtain ⟨F125, M125, e1, hw⟩ := hq
    rw [e1] at hR
    have hk := x_budN hk hca121
    have hn := x_budN hn hcb122
    refine lv_goto (tgt := 169) hx hb dX1_data_147 (by decide) ?_
    exact kX1_data_b169 C hlt hxt hR hS hk hn (lv_sub hl [] rfl) hw
def wX1_data_b93 (post : (Nat → Int32) → (Nat → Nat → Int32) → x_H → Prop) (postX : String → (Nat → Int32) → (Nat → Nat → Int32) → x_H → Prop) (gp : Nat → Nat) (ad : Nat → Nat)  (F : (Nat → Int32)) (M : (Nat → Nat → Int32)) (h : x_H) (mc : Nat) (ms : Nat) (x1 : Option Nat) (s0 : Int32) : Prop :=
  ∃ ca94 cb95 mc96 ms97 : Nat, ca94 + mc96 ≤ mc ∧ cb95 + ms97 ≤ ms ∧ wX1_want (fun F98 M98 h99 => ((50 : Int32) < (F98 12) → wX1_data_b112 post postX gp ad F98 M98 h99 mc96 ms97 x1 0) ∧ (¬ (50 : Int32) < (F98 12) → wX1_data_b112 post postX gp ad F98 M98 h99 mc96 ms97 x1 1)) postX ad s0 5 F M h ca94 cb95
theorem kX1_data_b93 {post : (Nat → Int32) → (Nat → Nat → Int32) → x_H → Prop} {postX : String → (Nat → Int32) → (Nat → Nat → Int32) → x_H → Prop} (C : x_C p s m args meth c cX1_data 2 none RX1 D N0 gp) (hlt : l.stackTraces = false) (hxt : ∀ x ∈ c.exceptionTable.toList, False) {F : (Nat → Int32)} {M : (Nat → Nat → Int32)} {h : x_H} {mc : Nat} {ms : Nat} {x1 : Option Nat} {s0 : Int32} {k n : Nat} {H : Heap} {locs : List Loc} {ls : Array Slot} (hR : x_R D s N0 (fixC ad F M ++ XF) h H) (hS : va_S (x_A N0) s.heap H locs) (hk : k + mc ≤ mc0) (hn : n + ms ≤ ms0) (hl : lv_has ls 2 [(0, .ref (ad 1000)), (1, va_rf x1)]) (hw : wX1_data_b93 post postX gp ad F M h mc ms x1 s0) : W p l e (rmX1_data mc0 ms0) s m args below meth c H locs k n (vx_MQ below (x_Qc D N0 (x_Vv (qCv ad XF post))) (x_XC D N0 (qXC ad XF postX)) args s mc0 ms0 (x_A N0)) (F0 m 93 ls [.int s0, .ref (ad 1000)]) := by
  obtain ⟨⟨hx, hb, hml, hown, hts⟩, hr, hlocks, hG, hN⟩ := id C
  unfold wX1_data_b93 at hw
  refine lv_iconst (v := 5) hx hb dX1_data_93 (by decide) ?_
  obtain ⟨ca94, cb95, mc96, ms97, hca94, hcb95, hw⟩ := hw
  refine x_callXv (x_runVX (n := 2) (As := [.int s0, .int 5]) C hR hS (kX1_want l D N0 gp ad XF s0 5 F M h ca94 cb95 _ _ hlt hw) (lw_V q606 q608 qs19 q85 q609) rfl rfl (by decide +kernel) ⟨Nat.le_of_ble_eq_true rfl, Nat.le_of_ble_eq_true rfl⟩ (x_recv C (hR.rdX 0 rfl) rfl) rfl hl.1 rfl (Nat.le_of_ble_eq_true rfl) dX1_data_94 ⟨x_bud hk hca94, x_bud hn hcb95⟩) hS (fun E9 ce9 q9 X9 h9 H9 locs9 hq9 hR9 hS9 hce9 hcv9 hcl9 => by obtain ⟨F9, M9, e9, hq9⟩ := hq9; rw [e9] at hR9; exact x_outX C hxt hR9 hS9 ⟨_, _, rfl, hq9⟩ hce9 hcv9 hcl9 (x_bud hk hca94) (x_bud hn hcb95)) (fun X1 h99 H locs hq hR hS => ?_)
  clear hw
  obtain ⟨F98, M98, e1, hw⟩ := hq
  rw [e1] at hR
  have hk := x_budN hk hca94
  have hn := x_budN hn hcb95
  refine lv_aload_n hx hb dX1_data_97 rfl (lv_at hl 0 rfl) ?_
  refine lv_aload_n hx hb dX1_data_98 rfl (lv_at hl 0 rfl) ?_
  refine x_get (ci := 0) (Cn := RX1) (T := TX1) (N := 27) (v := .int (F98 12)) C (hR.rdX 0 rfl) rfl in_X1 12 (by decide) q405 (fun _ h9 => h9) rfl dX1_data_99 ?_
  refine lv_bipush (v := 50) hx hb dX1_data_102 (by decide) ?_
  refine lv_icmp_gt (tgt := 111) hx hb dX1_data_104 (by decide) (fun c100 => ?_) (fun c100 => ?_)
  · replace hw := hw.1 c100
    refine lv_iconst (v := 0) hx hb dX1_data_111 (by decide) ?_
    exact kX1_data_b112 C hlt hxt hR hS hk hn (lv_sub hl [0, 1] rfl) hw
  · replace hw := hw.2 c100
    refine lv_iconst (v := 1) hx hb dX1_data_107 (by decide) ?_
    refine lv_goto (tgt := 112) hx hb dX1_data_108 (by decide) ?_
    exact kX1_data_b112 C hlt hxt hR hS hk hn (lv_sub hl [0, 1] rfl) hw
def wX1_data_b92 (post : (Nat → Int32) → (Nat → Nat → Int32) → x_H → Prop) (postX : String → (Nat → Int32) → (Nat → Nat → Int32) → x_H → Prop) (gp : Nat → Nat) (ad : Nat → Nat)  (F : (Nat → Int32)) (M : (Nat → Nat → Int32)) (h : x_H) (mc : Nat) (ms : Nat) (x1 : Option Nat) : Prop :=
  wX1_data_b93 post postX gp ad F M h mc ms x1 0
theorem kX1_data_b92 {post : (Nat → Int32) → (Nat → Nat → Int32) → x_H → Prop} {postX : String → (Nat → Int32) → (Nat → Nat → Int32) → x_H → Prop} (C : x_C p s m args meth c cX1_data 2 none RX1 D N0 gp) (hlt : l.stackTraces = false) (hxt : ∀ x ∈ c.exceptionTable.toList, False) {F : (Nat → Int32)} {M : (Nat → Nat → Int32)} {h : x_H} {mc : Nat} {ms : Nat} {x1 : Option Nat} {k n : Nat} {H : Heap} {locs : List Loc} {ls : Array Slot} (hR : x_R D s N0 (fixC ad F M ++ XF) h H) (hS : va_S (x_A N0) s.heap H locs) (hk : k + mc ≤ mc0) (hn : n + ms ≤ ms0) (hl : lv_has ls 2 [(0, .ref (ad 1000)), (1, va_rf x1)]) (hw : wX1_data_b92 post postX gp ad F M h mc ms x1) : W p l e (rmX1_data mc0 ms0) s m args below meth c H locs k n (vx_MQ below (x_Qc D N0 (x_Vv (qCv ad XF post))) (x_XC D N0 (qXC ad XF postX)) args s mc0 ms0 (x_A N0)) (F0 m 92 ls [.ref (ad 1000)]) := by
  obtain ⟨⟨hx, hb, hml, hown, hts⟩, hr, hlocks, hG, hN⟩ := id C
  unfold wX1_data_b92 at hw
  refine lv_iconst (v := 0) hx hb dX1_data_92 (by decide) ?_
  exact kX1_data_b93 C hlt hxt hR hS hk hn (lv_sub hl [0, 1] rfl) hw
def wX1_data_b67 (post : (Nat → Int32) → (Nat → Nat → Int32) → x_H → Prop) (postX : String → (Nat → Int32) → (Nat → Nat → Int32) → x_H → Prop) (gp : Nat → Nat) (ad : Nat → Nat)  (F : (Nat → Int32)) (M : (Nat → Nat → Int32)) (h : x_H) (mc : Nat) (ms : Nat) : Prop :=
  wX1_known (fun r89 => (r89 = none → wX1_data_b92 post postX gp ad F M h mc ms none) ∧ (∀ a90 : Nat, r89 = some a90 → ∃ y92 : Int32, x_f h a90 4 6 (.int y92) ∧ (y92 = 0 → wX1_data_b93 post postX gp ad F M h mc ms (some a90) 1) ∧ (¬ y92 = 0 → wX1_data_b92 post postX gp ad F M h mc ms (some a90)))) ad (F 11) F M h
theorem kX1_data_b67 {post : (Nat → Int32) → (Nat → Nat → Int32) → x_H → Prop} {postX : String → (Nat → Int32) → (Nat → Nat → Int32) → x_H → Prop} (C : x_C p s m args meth c cX1_data 2 none RX1 D N0 gp) (hlt : l.stackTraces = false) (hxt : ∀ x ∈ c.exceptionTable.toList, False) {F : (Nat → Int32)} {M : (Nat → Nat → Int32)} {h : x_H} {mc : Nat} {ms : Nat} {k n : Nat} {H : Heap} {locs : List Loc} {ls : Array Slot} (hR : x_R D s N0 (fixC ad F M ++ XF) h H) (hS : va_S (x_A N0) s.heap H locs) (hk : k + mc ≤ mc0) (hn : n + ms ≤ ms0) (hl : lv_has ls 2 [(0, .ref (ad 1000))]) (hw : wX1_data_b67 post postX gp ad F M h mc ms) : W p l e (rmX1_data mc0 ms0) s m args below meth c H locs k n (vx_MQ below (x_Qc D N0 (x_Vv (qCv ad XF post))) (x_XC D N0 (qXC ad XF postX)) args s mc0 ms0 (x_A N0)) (F0 m 67 ls []) := by
  obtain ⟨⟨hx, hb, hml, hown, hts⟩, hr, hlocks, hG, hN⟩ := id C
  unfold wX1_data_b67 at hw
  refine lv_aload_n hx hb dX1_data_67 rfl (lv_at hl 0 rfl) ?_
  refine lv_aload_n hx hb dX1_data_68 rfl (lv_at hl 0 rfl) ?_
  refine x_get (ci := 0) (Cn := RX1) (T := TX1) (N := 27) (v := .int (F 11)) C (hR.rdX 0 rfl) rfl in_X1 11 (by decide) q404 (fun _ h9 => h9) rfl dX1_data_69 ?_
  refine x_calla0 (x_runV (n := 1) (As := [.int (F 11)]) C hR hS (kX1_known l D N0 gp ad XF (F 11) F M h _ hw) (lw_V q594 q596 qs18 q85 q597) rfl rfl (by decide +kernel) ⟨Nat.le_of_ble_eq_true rfl, Nat.le_of_ble_eq_true rfl⟩ (x_recv C (hR.rdX 0 rfl) rfl) rfl hl.1 rfl (Nat.le_of_ble_eq_true rfl) dX1_data_72 ⟨x_bud0 hk, x_bud0 hn⟩) hS (fun r89 X1 h1 H locs hq hR hS => ?_)
  clear hw
  obtain ⟨e1, e2, hw⟩ := hq
  rw [e1, e2] at hR
  refine x_astore_nO (lv' := [(1, va_rf r89), (0, .ref (ad 1000))]) hx hb dX1_data_75 rfl hl (by decide) rfl (fun ls hl => ?_)
  refine lv_aload_n hx hb dX1_data_76 rfl (lv_at hl 1 rfl) ?_
  refine x_aload_nO hx hb dX1_data_77 rfl (lv_at hl 0 rfl) ?_
  cases r89 with
  | none =>
    replace hw := hw.1 rfl
    refine lv_ifnullN (tgt := 92) hx hb dX1_data_78 (by decide) ?_
    exact kX1_data_b92 C hlt hxt hR hS hk hn (lv_sub hl [1, 0] rfl) hw
  | some a90 =>
    replace hw := hw.2 a90 rfl
    refine lv_ifnull hx hb dX1_data_78 ?_
    refine lv_aload_n hx hb dX1_data_81 rfl (lv_at hl 0 rfl) ?_
    obtain ⟨y92, hf91, hw⟩ := hw
    refine x_getHN (ci := 4) (Cn := RX5) (T := TX5) (N := 9) (k := 6) C hR hf91 rfl in_X5 (by decide) (x_nest C q331 rfl) (fun _ h9 => h9) dX1_data_82 ?_
    refine lv_if_ne (tgt := 92) hx hb dX1_data_85 (by decide) (fun c93 => ?_) (fun c93 => ?_)
    · replace hw := hw.2 c93
      exact kX1_data_b92 C hlt hxt hR hS hk hn (lv_sub hl [1, 0] rfl) hw
    · replace hw := hw.1 c93
      refine lv_iconst (v := 1) hx hb dX1_data_88 (by decide) ?_
      refine lv_goto (tgt := 93) hx hb dX1_data_89 (by decide) ?_
      exact kX1_data_b93 C hlt hxt hR hS hk hn (lv_sub hl [1, 0] rfl) hw
def wX1_data_b47 (post : (Nat → Int32) → (Nat → Nat → Int32) → x_H → Prop) (postX : String → (Nat → Int32) → (Nat → Nat → Int32) → x_H → Prop) (gp : Nat → Nat) (ad : Nat → Nat)  (F : (Nat → Int32)) (M : (Nat → Nat → Int32)) (h : x_H) (mc : Nat) (ms : Nat) (s0 : Int32) : Prop :=
  ∃ ca80 cb81 mc82 ms83 : Nat, ca80 + mc82 ≤ mc ∧ cb81 + ms83 ≤ ms ∧ wX1_must (fun F84 M84 h85 => ((F84 12) ≤ 0 → wX1_data_b67 post postX gp ad F84 M84 h85 mc82 ms83) ∧ (¬ (F84 12) ≤ 0 → wX1_credit (fun F87 M87 h88 => wX1_data_b67 post postX gp ad F87 M87 h88 mc82 ms83) ad 0 (F84 12) F84 M84 h85)) postX ad s0 3 F M h ca80 cb81
theorem kX1_data_b47 {post : (Nat → Int32) → (Nat → Nat → Int32) → x_H → Prop} {postX : String → (Nat → Int32) → (Nat → Nat → Int32) → x_H → Prop} (C : x_C p s m args meth c cX1_data 2 none RX1 D N0 gp) (hlt : l.stackTraces = false) (hxt : ∀ x ∈ c.exceptionTable.toList, False) {F : (Nat → Int32)} {M : (Nat → Nat → Int32)} {h : x_H} {mc : Nat} {ms : Nat} {s0 : Int32} {k n : Nat} {H : Heap} {locs : List Loc} {ls : Array Slot} (hR : x_R D s N0 (fixC ad F M ++ XF) h H) (hS : va_S (x_A N0) s.heap H locs) (hk : k + mc ≤ mc0) (hn : n + ms ≤ ms0) (hl : lv_has ls 2 [(0, .ref (ad 1000))]) (hw : wX1_data_b47 post postX gp ad F M h mc ms s0) : W p l e (rmX1_data mc0 ms0) s m args below meth c H locs k n (vx_MQ below (x_Qc D N0 (x_Vv (qCv ad XF post))) (x_XC D N0 (qXC ad XF postX)) args s mc0 ms0 (x_A N0)) (F0 m 47 ls [.int s0, .ref (ad 1000)]) := by
  obtain ⟨⟨hx, hb, hml, hown, hts⟩, hr, hlocks, hG, hN⟩ := id C
  unfold wX1_data_b47 at hw
  refine lv_iconst (v := 3) hx hb dX1_data_47 (by decide) ?_
  obtain ⟨ca80, cb81, mc82, ms83, hca80, hcb81, hw⟩ := hw
  refine x_callXv (x_runVX (n := 2) (As := [.int s0, .int 3]) C hR hS (kX1_must l D N0 gp ad XF s0 3 F M h ca80 cb81 _ _ hlt hw) (lw_V q507 q509 qs11 q85 q510) rfl rfl (by decide +kernel) ⟨Nat.le_of_ble_eq_true rfl, Nat.le_of_ble_eq_true rfl⟩ (x_recv C (hR.rdX 0 rfl) rfl) rfl hl.1 rfl (Nat.le_of_ble_eq_true rfl) dX1_data_48 ⟨x_bud hk hca80, x_bud hn hcb81⟩) hS (fun E9 ce9 q9 X9 h9 H9 locs9 hq9 hR9 hS9 hce9 hcv9 hcl9 => by obtain ⟨F9, M9, e9, hq9⟩ := hq9; rw [e9] at hR9; exact x_outX C hxt hR9 hS9 ⟨_, _, rfl, hq9⟩ hce9 hcv9 hcl9 (x_bud hk hca80) (x_bud hn hcb81)) (fun X1 h85 H locs hq hR hS => ?_)
  clear hw
  obtain ⟨F84, M84, e1, hw⟩ := hq
  rw [e1] at hR
  have hk := x_budN hk hca80
  have hn := x_budN hn hcb81
  refine lv_aload_n hx hb dX1_data_51 rfl (lv_at hl 0 rfl) ?_
  refine x_get (ci := 0) (Cn := RX1) (T := TX1) (N := 27) (v := .int (F84 12)) C (hR.rdX 0 rfl) rfl in_X1 12 (by decide) q405 (fun _ h9 => h9) rfl dX1_data_52 ?_
  refine lv_if_le (tgt := 67) hx hb dX1_data_55 (by decide) (fun c86 => ?_) (fun c86 => ?_)
  · replace hw := hw.1 c86
    exact kX1_data_b67 C hlt hxt hR hS hk hn (lv_sub hl [0] rfl) hw
  · replace hw := hw.2 c86
    refine lv_aload_n hx hb dX1_data_58 rfl (lv_at hl 0 rfl) ?_
    refine lv_iconst (v := 0) hx hb dX1_data_59 (by decide) ?_
    refine lv_aload_n hx hb dX1_data_60 rfl (lv_at hl 0 rfl) ?_
    refine x_get (ci := 0) (Cn := RX1) (T := TX1) (N := 27) (v := .int (F84 12)) C (hR.rdX 0 rfl) rfl in_X1 12 (by decide) q405 (fun _ h9 => h9) rfl dX1_data_61 ?_
    refine x_callv0 (x_runV (n := 2) (As := [.int 0, .int (F84 12)]) C hR hS (kX1_credit l D N0 gp ad XF 0 (F84 12) F84 M84 h85 _ hw) (lw_V q590 q592 qs17 q85 q593) rfl rfl (by decide +kernel) ⟨Nat.le_of_ble_eq_true rfl, Nat.le_of_ble_eq_true rfl⟩ (x_recv C (hR.rdX 0 rfl) rfl) rfl hl.1 rfl (Nat.le_of_ble_eq_true rfl) dX1_data_64 ⟨x_bud0 hk, x_bud0 hn⟩) hS (fun X1 h88 H locs hq hR hS => ?_)
    clear hw
    obtain ⟨F87, M87, e1, hw⟩ := hq
    rw [e1] at hR
    exact kX1_data_b67 C hlt hxt hR hS hk hn (lv_sub hl [0] rfl) hw
def wX1_data_b24 (post : (Nat → Int32) → (Nat → Nat → Int32) → x_H → Prop) (postX : String → (Nat → Int32) → (Nat → Nat → Int32) → x_H → Prop) (gp : Nat → Nat) (ad : Nat → Nat)  (F : (Nat → Int32)) (M : (Nat → Nat → Int32)) (h : x_H) (mc : Nat) (ms : Nat) (s0 : Int32) : Prop :=
  ∃ ca67 cb68 mc69 ms70 : Nat, ca67 + mc69 ≤ mc ∧ cb68 + ms70 ≤ ms ∧ wX1_must (fun F71 M71 h72 => ∃ ca73 cb74 mc75 ms76 : Nat, ca73 + mc75 ≤ mc69 ∧ cb74 + ms76 ≤ ms70 ∧ wX1_unpad (fun F77 M77 h78 => ((80 : Int32) < (F77 12) → wX1_data_b47 post postX gp ad F77 M77 h78 mc75 ms76 0) ∧ (¬ (80 : Int32) < (F77 12) → wX1_data_b47 post postX gp ad F77 M77 h78 mc75 ms76 1)) postX ad F71 M71 h72 ca73 cb74) postX ad s0 1 F M h ca67 cb68
theorem kX1_data_b24 {post : (Nat → Int32) → (Nat → Nat → Int32) → x_H → Prop} {postX : String → (Nat → Int32) → (Nat → Nat → Int32) → x_H → Prop} (C : x_C p s m args meth c cX1_data 2 none RX1 D N0 gp) (hlt : l.stackTraces = false) (hxt : ∀ x ∈ c.exceptionTable.toList, False) {F : (Nat → Int32)} {M : (Nat → Nat → Int32)} {h : x_H} {mc : Nat} {ms : Nat} {s0 : Int32} {k n : Nat} {H : Heap} {locs : List Loc} {ls : Array Slot} (hR : x_R D s N0 (fixC ad F M ++ XF) h H) (hS : va_S (x_A N0) s.heap H locs) (hk : k + mc ≤ mc0) (hn : n + ms ≤ ms0) (hl : lv_has ls 2 [(0, .ref (ad 1000))]) (hw : wX1_data_b24 post postX gp ad F M h mc ms s0) : W p l e (rmX1_data mc0 ms0) s m args below meth c H locs k n (vx_MQ below (x_Qc D N0 (x_Vv (qCv ad XF post))) (x_XC D N0 (qXC ad XF postX)) args s mc0 ms0 (x_A N0)) (F0 m 24 ls [.int s0, .ref (ad 1000)]) := by
  obtain ⟨⟨hx, hb, hml, hown, hts⟩, hr, hlocks, hG, hN⟩ := id C
  unfold wX1_data_b24 at hw
  refine lv_iconst (v := 1) hx hb dX1_data_24 (by decide) ?_
  obtain ⟨ca67, cb68, mc69, ms70, hca67, hcb68, hw⟩ := hw
  refine x_callXv (x_runVX (n := 2) (As := [.int s0, .int 1]) C hR hS (kX1_must l D N0 gp ad XF s0 1 F M h ca67 cb68 _ _ hlt hw) (lw_V q507 q509 qs11 q85 q510) rfl rfl (by decide +kernel) ⟨Nat.le_of_ble_eq_true rfl, Nat.le_of_ble_eq_true rfl⟩ (x_recv C (hR.rdX 0 rfl) rfl) rfl hl.1 rfl (Nat.le_of_ble_eq_true rfl) dX1_data_25 ⟨x_bud hk hca67, x_bud hn hcb68⟩) hS (fun E9 ce9 q9 X9 h9 H9 locs9 hq9 hR9 hS9 hce9 hcv9 hcl9 => by obtain ⟨F9, M9, e9, hq9⟩ := hq9; rw [e9] at hR9; exact x_outX C hxt hR9 hS9 ⟨_, _, rfl, hq9⟩ hce9 hcv9 hcl9 (x_bud hk hca67) (x_bud hn hcb68)) (fun X1 h72 H locs hq hR hS => ?_)
  clear hw
  obtain ⟨F71, M71, e1, hw⟩ := hq
  rw [e1] at hR
  have hk := x_budN hk hca67
  have hn := x_budN hn hcb68
  refine lv_aload_n hx hb dX1_data_28 rfl (lv_at hl 0 rfl) ?_
  obtain ⟨ca73, cb74, mc75, ms76, hca73, hcb74, hw⟩ := hw
  refine x_callXv (x_runVX (n := 0) (As := []) C hR hS (kX1_unpad l D N0 gp ad XF F71 M71 h72 ca73 cb74 _ _ hlt hw) (lw_V q582 q584 qs15 q85 q585) rfl rfl (by decide +kernel) ⟨Nat.le_of_ble_eq_true rfl, Nat.le_of_ble_eq_true rfl⟩ (x_recv C (hR.rdX 0 rfl) rfl) rfl hl.1 rfl (Nat.le_of_ble_eq_true rfl) dX1_data_29 ⟨x_bud hk hca73, x_bud hn hcb74⟩) hS (fun E9 ce9 q9 X9 h9 H9 locs9 hq9 hR9 hS9 hce9 hcv9 hcl9 => by obtain ⟨F9, M9, e9, hq9⟩ := hq9; rw [e9] at hR9; exact x_outX C hxt hR9 hS9 ⟨_, _, rfl, hq9⟩ hce9 hcv9 hcl9 (x_bud hk hca73) (x_bud hn hcb74)) (fun X1 h78 H locs hq hR hS => ?_)
  clear hw
  obtain ⟨F77, M77, e1, hw⟩ := hq
  rw [e1] at hR
  have hk := x_budN hk hca73
  have hn := x_budN hn hcb74
  refine lv_aload_n hx hb dX1_data_32 rfl (lv_at hl 0 rfl) ?_
  refine lv_aload_n hx hb dX1_data_33 rfl (lv_at hl 0 rfl) ?_
  refine x_get (ci := 0) (Cn := RX1) (T := TX1) (N := 27) (v := .int (F77 12)) C (hR.rdX 0 rfl) rfl in_X1 12 (by decide) q405 (fun _ h9 => h9) rfl dX1_data_34 ?_
  refine lv_bipush (v := 80) hx hb dX1_data_37 (by decide) ?_
  refine lv_icmp_gt (tgt := 46) hx hb dX1_data_39 (by decide) (fun c79 => ?_) (fun c79 => ?_)
  · replace hw := hw.1 c79
    refine lv_iconst (v := 0) hx hb dX1_data_46 (by decide) ?_
    exact kX1_data_b47 C hlt hxt hR hS hk hn (lv_sub hl [0] rfl) hw
  · replace hw := hw.2 c79
    refine lv_iconst (v := 1) hx hb dX1_data_42 (by decide) ?_
    refine lv_goto (tgt := 47) hx hb dX1_data_43 (by decide) ?_
    exact kX1_data_b47 C hlt hxt hR hS hk hn (lv_sub hl [0] rfl) hw
def wX1_data_b23 (post : (Nat → Int32) → (Nat → Nat → Int32) → x_H → Prop) (postX : String → (Nat → Int32) → (Nat → Nat → Int32) → x_H → Prop) (gp : Nat → Nat) (ad : Nat → Nat)  (F : (Nat → Int32)) (M : (Nat → Nat → Int32)) (h : x_H) (mc : Nat) (ms : Nat) : Prop :=
  wX1_data_b24 post postX gp ad F M h mc ms 0
theorem kX1_data_b23 {post : (Nat → Int32) → (Nat → Nat → Int32) → x_H → Prop} {postX : String → (Nat → Int32) → (Nat → Nat → Int32) → x_H → Prop} (C : x_C p s m args meth c cX1_data 2 none RX1 D N0 gp) (hlt : l.stackTraces = false) (hxt : ∀ x ∈ c.exceptionTable.toList, False) {F : (Nat → Int32)} {M : (Nat → Nat → Int32)} {h : x_H} {mc : Nat} {ms : Nat} {k n : Nat} {H : Heap} {locs : List Loc} {ls : Array Slot} (hR : x_R D s N0 (fixC ad F M ++ XF) h H) (hS : va_S (x_A N0) s.heap H locs) (hk : k + mc ≤ mc0) (hn : n + ms ≤ ms0) (hl : lv_has ls 2 [(0, .ref (ad 1000))]) (hw : wX1_data_b23 post postX gp ad F M h mc ms) : W p l e (rmX1_data mc0 ms0) s m args below meth c H locs k n (vx_MQ below (x_Qc D N0 (x_Vv (qCv ad XF post))) (x_XC D N0 (qXC ad XF postX)) args s mc0 ms0 (x_A N0)) (F0 m 23 ls [.ref (ad 1000)]) := by
  obtain ⟨⟨hx, hb, hml, hown, hts⟩, hr, hlocks, hG, hN⟩ := id C
  unfold wX1_data_b23 at hw
  refine lv_iconst (v := 0) hx hb dX1_data_23 (by decide) ?_
  exact kX1_data_b24 C hlt hxt hR hS hk hn (lv_sub hl [0] rfl) hw
end
def wX1_data (post : (Nat → Int32) → (Nat → Nat → Int32) → x_H → Prop) (postX : String → (Nat → Int32) → (Nat → Nat → Int32) → x_H → Prop) (gp : Nat → Nat) (ad : Nat → Nat)  (F : (Nat → Int32)) (M : (Nat → Nat → Int32)) (h : x_H) (mc : Nat) (ms : Nat) : Prop :=
  ((F 11) = 0 → wX1_data_b23 post postX gp ad F M h mc ms) ∧ (¬ (F 11) = 0 → wX1_isIdle (fun r65 => (r65 = 0 → wX1_data_b24 post postX gp ad F M h mc ms 1) ∧ (¬ r65 = 0 → wX1_data_b23 post postX gp ad F M h mc ms)) ad (F 11) F M h)
theorem kX1_data (l : Launch) (D : va_G) (N0 : Nat) (gp : Nat → Nat) (ad : Nat → Nat) (XF : x_X)  (F : (Nat → Int32)) (M : (Nat → Nat → Int32)) (h : x_H) (mc : Nat) (ms : Nat) (post : (Nat → Int32) → (Nat → Nat → Int32) → x_H → Prop) (postX : String → (Nat → Int32) → (Nat → Nat → Int32) → x_H → Prop) (hlt : l.stackTraces = false) (hw : wX1_data post postX gp ad F M h mc ms) : vx_Met l yX1_data (ws_ yX1_data cX1_data 2 none) (rmX1_data mc ms) (x_Pc D N0 gp (fixC ad F M ++ XF) h [.ref (ad 1000)]) (x_Qc D N0 (x_Vv (qCv ad XF post))) (x_XC D N0 (qXC ad XF postX)) mc ms (x_A N0) := by
  refine x_startX (lv := [(0, .ref (ad 1000))]) (by decide) rfl (Nat.le_of_ble_eq_true rfl) rfl ?_
  intro p e s m below meth c C hxt hR ls hl
  have hS : va_S (x_A N0) s.heap s.heap [] := va_S.rf
  obtain ⟨⟨hx, hb, hml, hown, hts⟩, hr, hlocks, hG, hN⟩ := id C
  unfold wX1_data at hw
  have hk : 0 + mc ≤ mc := Nat.le_of_eq (Nat.zero_add _)
  have hn : 0 + ms ≤ ms := Nat.le_of_eq (Nat.zero_add _)
  refine lv_aload_n hx hb dX1_data_0 rfl (lv_at hl 0 rfl) ?_
  refine lv_aload_n hx hb dX1_data_1 rfl (lv_at hl 0 rfl) ?_
  refine x_get (ci := 0) (Cn := RX1) (T := TX1) (N := 27) (v := .int (F 11)) C (hR.rdX 0 rfl) rfl in_X1 11 (by decide) q404 (fun _ h9 => h9) rfl dX1_data_2 ?_
  refine lv_if_eq (tgt := 23) hx hb dX1_data_5 (by decide) (fun c64 => ?_) (fun c64 => ?_)
  · replace hw := hw.1 c64
    exact kX1_data_b23 C hlt hxt hR hS hk hn (lv_sub hl [0] rfl) hw
  · replace hw := hw.2 c64
    refine lv_aload_n hx hb dX1_data_8 rfl (lv_at hl 0 rfl) ?_
    refine lv_aload_n hx hb dX1_data_9 rfl (lv_at hl 0 rfl) ?_
    refine x_get (ci := 0) (Cn := RX1) (T := TX1) (N := 27) (v := .int (F 11)) C (hR.rdX 0 rfl) rfl in_X1 11 (by decide) q404 (fun _ h9 => h9) rfl dX1_data_10 ?_
    refine x_calli0 (x_runV (n := 1) (As := [.int (F 11)]) C hR hS (kX1_isIdle l D N0 gp ad XF (F 11) F M h _ hw) (lw_V q578 q580 qs14 q85 q581) rfl rfl (by decide +kernel) ⟨Nat.le_of_ble_eq_true rfl, Nat.le_of_ble_eq_true rfl⟩ (x_recv C (hR.rdX 0 rfl) rfl) rfl hl.1 rfl (Nat.le_of_ble_eq_true rfl) dX1_data_13 ⟨x_bud0 hk, x_bud0 hn⟩) hS (fun r65 X1 h1 H locs hq hR hS => ?_)
    clear hw
    obtain ⟨e1, e2, hw⟩ := hq
    rw [e1, e2] at hR
    refine lv_if_ne (tgt := 23) hx hb dX1_data_16 (by decide) (fun c66 => ?_) (fun c66 => ?_)
    · replace hw := hw.2 c66
      exact kX1_data_b23 C hlt hxt hR hS hk hn (lv_sub hl [0] rfl) hw
    · replace hw := hw.1 c66
      refine lv_iconst (v := 1) hx hb dX1_data_19 (by decide) ?_
      refine lv_goto (tgt := 24) hx hb dX1_data_20 (by decide) ?_
      exact kX1_data_b24 C hlt hxt hR hS hk hn (lv_sub hl [0] rfl) hw
/-- PageServer$Reader.next()I -/
abbrev rmX4_next : Room := { frames := 0, cells := 0, slots := 0, locals := 0 }
section
variable {p : Program} {l : Launch} {e : Env} {s : State} {m : MethodId} {args : Array Value} {below : List Frame} {meth : Method} {c : Code} {D : va_G} {N0 : Nat} {gp : Nat → Nat} {ad : Nat → Nat} {XF : x_X}
def wX4_next_b24 (post : Int32 → (Nat → Int32) → (Nat → Nat → Int32) → x_H → Prop) (ad : Nat → Nat)  (F : (Nat → Int32)) (M : (Nat → Nat → Int32)) (h : x_H) (s0 : Int32) : Prop :=
  x_bit s0 ∧ (s0 = 0 → post 0 (upd F 204 s0) M h) ∧ (¬ s0 = 0 → vp_in (((F 203) + 1) - 1) 100 ∧ post (((M 200) (((F 203) + 1) - 1).toNatClampNeg) &&& 255) (upd (upd F 204 s0) 203 ((F 203) + 1)) M h)
theorem kX4_next_b24 {post : Int32 → (Nat → Int32) → (Nat → Nat → Int32) → x_H → Prop} (C : x_C p s m args meth c cX4_next 1 (some .int) RX4 D N0 gp) {F : (Nat → Int32)} {M : (Nat → Nat → Int32)} {h : x_H} {s0 : Int32} {H : Heap} {locs : List Loc} {ls : Array Slot} (hR : x_R D s N0 (fixC ad F M ++ XF) h H) (hS : va_S (x_A N0) s.heap H locs) (hl : lv_has ls 1 [(0, .ref (ad 4))]) (hw : wX4_next_b24 post ad F M h s0) : W p l e rmX4_next s m args below meth c H locs 0 0 (MQ below (x_Qc D N0 (x_Vi (qCi ad XF post))) args s 0 0 (x_A N0)) (F0 m 24 ls [.int s0, .ref (ad 4)]) := by
  obtain ⟨⟨hx, hb, hml, hown, hts⟩, hr, hlocks, hG, hN⟩ := id C
  unfold wX4_next_b24 at hw
  obtain ⟨z8, hw⟩ := hw
  refine x_putX (ci := 3) (Cn := RX4) (T := TX4) (N := 5) (v := .int s0) C hR hS 2 rfl rfl in_X4 tyX4_ok nmX4 4 (by decide) q301 (fun _ h9 => h9) rfl (x_bitN z8) (x_bitF z8) (Nat.le_of_ble_eq_true rfl) (sC_f204 ..) dX4_next_24 (fun H locs hR hS => ?_)
  refine lv_aload_n hx hb dX4_next_27 rfl (lv_at hl 0 rfl) ?_
  refine x_get (ci := 3) (Cn := RX4) (T := TX4) (N := 5) (v := .int s0) C (hR.rdX 2 rfl) rfl in_X4 4 (by decide) q301 (fun _ h9 => h9) rfl dX4_next_28 ?_
  refine lv_if_ne (tgt := 36) hx hb dX4_next_31 (by decide) (fun c9 => ?_) (fun c9 => ?_)
  · replace hw := hw.2 c9
    refine lv_aload_n hx hb dX4_next_36 rfl (lv_at hl 0 rfl) ?_
    refine lv_dup hx hb dX4_next_37 rfl ?_
    refine x_get (ci := 3) (Cn := RX4) (T := TX4) (N := 5) (v := .int (F 203)) C (hR.rdX 2 rfl) rfl in_X4 3 (by decide) q300 (fun _ h9 => h9) rfl dX4_next_38 ?_
    refine lv_iconst (v := 1) hx hb dX4_next_41 (by decide) ?_
    refine lv_iadd hx hb dX4_next_42 ?_
    refine x_putX (ci := 3) (Cn := RX4) (T := TX4) (N := 5) (v := .int ((F 203) + 1)) C hR hS 2 rfl rfl in_X4 tyX4_ok nmX4 3 (by decide) q300 (fun _ h9 => h9) rfl rfl rfl (Nat.le_of_ble_eq_true rfl) (sC_f203 ..) dX4_next_43 (fun H locs hR hS => ?_)
    refine lv_aload_n hx hb dX4_next_46 rfl (lv_at hl 0 rfl) ?_
    refine x_get (ci := 3) (Cn := RX4) (T := TX4) (N := 5) (v := .ref (ad 200)) C (hR.rdX 2 rfl) rfl in_X4 0 (by decide) q295 (fun _ h9 => h9) rfl dX4_next_47 ?_
    refine lv_aload_n hx hb dX4_next_50 rfl (lv_at hl 0 rfl) ?_
    refine x_get (ci := 3) (Cn := RX4) (T := TX4) (N := 5) (v := .int ((F 203) + 1)) C (hR.rdX 2 rfl) rfl in_X4 3 (by decide) q300 (fun _ h9 => h9) rfl dX4_next_51 ?_
    refine lv_iconst (v := 1) hx hb dX4_next_54 (by decide) ?_
    refine lv_isub hx hb dX4_next_55 ?_
    obtain ⟨b10, hw⟩ := hw
    refine x_bald (n := 100) (f := (M 200)) C (hR.rdX 5 rfl) b10 dX4_next_56 ?_
    refine lv_sipush (v := 255) hx hb dX4_next_57 (by decide) ?_
    refine lv_iand hx hb dX4_next_60 ?_
    exact x_endi C hR hS ⟨_, rfl, ⟨_, _, rfl, hw⟩⟩ (Nat.le_refl _) (Nat.le_refl _) dX4_next_61
  · replace hw := hw.1 c9
    refine lv_iconst (v := 0) hx hb dX4_next_34 (by decide) ?_
    exact x_endi C hR hS ⟨_, rfl, ⟨_, _, rfl, hw⟩⟩ (Nat.le_refl _) (Nat.le_refl _) dX4_next_35
def wX4_next_b23 (post : Int32 → (Nat → Int32) → (Nat → Nat → Int32) → x_H → Prop) (ad : Nat → Nat)  (F : (Nat → Int32)) (M : (Nat → Nat → Int32)) (h : x_H) : Prop :=
  wX4_next_b24 post ad F M h 0
theorem kX4_next_b23 {post : Int32 → (Nat → Int32) → (Nat → Nat → Int32) → x_H → Prop} (C : x_C p s m args meth c cX4_next 1 (some .int) RX4 D N0 gp) {F : (Nat → Int32)} {M : (Nat → Nat → Int32)} {h : x_H} {H : Heap} {locs : List Loc} {ls : Array Slot} (hR : x_R D s N0 (fixC ad F M ++ XF) h H) (hS : va_S (x_A N0) s.heap H locs) (hl : lv_has ls 1 [(0, .ref (ad 4))]) (hw : wX4_next_b23 post ad F M h) : W p l e rmX4_next s m args below meth c H locs 0 0 (MQ below (x_Qc D N0 (x_Vi (qCi ad XF post))) args s 0 0 (x_A N0)) (F0 m 23 ls [.ref (ad 4)]) := by
  obtain ⟨⟨hx, hb, hml, hown, hts⟩, hr, hlocks, hG, hN⟩ := id C
  unfold wX4_next_b23 at hw
  refine lv_iconst (v := 0) hx hb dX4_next_23 (by decide) ?_
  exact kX4_next_b24 C hR hS (lv_sub hl [0] rfl) hw
end
def wX4_next (post : Int32 → (Nat → Int32) → (Nat → Nat → Int32) → x_H → Prop) (ad : Nat → Nat)  (F : (Nat → Int32)) (M : (Nat → Nat → Int32)) (h : x_H) : Prop :=
  ((F 204) = 0 → wX4_next_b23 post ad F M h) ∧ (¬ (F 204) = 0 → ((F 202) ≤ (F 203) → wX4_next_b23 post ad F M h) ∧ (¬ (F 202) ≤ (F 203) → wX4_next_b24 post ad F M h 1))
theorem kX4_next (l : Launch) (D : va_G) (N0 : Nat) (gp : Nat → Nat) (ad : Nat → Nat) (XF : x_X)  (F : (Nat → Int32)) (M : (Nat → Nat → Int32)) (h : x_H) (post : Int32 → (Nat → Int32) → (Nat → Nat → Int32) → x_H → Prop) (hw : wX4_next post ad F M h) : Met l yX4_next (ws_ yX4_next cX4_next 1 (some .int)) rmX4_next (x_Pc D N0 gp (fixC ad F M ++ XF) h [.ref (ad 4)]) (x_Qc D N0 (x_Vi (qCi ad XF post))) 0 0 (x_A N0) := by
  refine x_start (lv := [(0, .ref (ad 4))]) (by decide) rfl (Nat.le_of_ble_eq_true rfl) rfl ?_
  intro p e s m below meth c C hR ls hl
  have hS : va_S (x_A N0) s.heap s.heap [] := va_S.rf
  obtain ⟨⟨hx, hb, hml, hown, hts⟩, hr, hlocks, hG, hN⟩ := id C
  unfold wX4_next at hw
  refine lv_aload_n hx hb dX4_next_0 rfl (lv_at hl 0 rfl) ?_
  refine lv_aload_n hx hb dX4_next_1 rfl (lv_at hl 0 rfl) ?_
  refine x_get (ci := 3) (Cn := RX4) (T := TX4) (N := 5) (v := .int (F 204)) C (hR.rdX 2 rfl) rfl in_X4 4 (by decide) q301 (fun _ h9 => h9) rfl dX4_next_2 ?_
  refine lv_if_eq (tgt := 23) hx hb dX4_next_5 (by decide) (fun c6 => ?_) (fun c6 => ?_)
  · replace hw := hw.1 c6
    exact kX4_next_b23 C hR hS (lv_sub hl [0] rfl) hw
  · replace hw := hw.2 c6
    refine lv_aload_n hx hb dX4_next_8 rfl (lv_at hl 0 rfl) ?_
    refine x_get (ci := 3) (Cn := RX4) (T := TX4) (N := 5) (v := .int (F 203)) C (hR.rdX 2 rfl) rfl in_X4 3 (by decide) q300 (fun _ h9 => h9) rfl dX4_next_9 ?_
    refine lv_aload_n hx hb dX4_next_12 rfl (lv_at hl 0 rfl) ?_
    refine x_get (ci := 3) (Cn := RX4) (T := TX4) (N := 5) (v := .int (F 202)) C (hR.rdX 2 rfl) rfl in_X4 2 (by decide) q298 (fun _ h9 => h9) rfl dX4_next_13 ?_
    refine lv_icmp_ge (tgt := 23) hx hb dX4_next_16 (by decide) (fun c7 => ?_) (fun c7 => ?_)
    · replace hw := hw.1 c7
      exact kX4_next_b23 C hR hS (lv_sub hl [0] rfl) hw
    · replace hw := hw.2 c7
      refine lv_iconst (v := 1) hx hb dX4_next_19 (by decide) ?_
      refine lv_goto (tgt := 24) hx hb dX4_next_20 (by decide) ?_
      exact kX4_next_b24 C hR hS (lv_sub hl [0] rfl) hw
/-- PageServer$Table.at(I)LPageServer$Entry; -/
abbrev rmX2_at : Room := { frames := 3, cells := 0, slots := 0, locals := 64 }
section
variable {p : Program} {l : Launch} {e : Env} {s : State} {m : MethodId} {args : Array Value} {below : List Frame} {meth : Method} {c : Code} {D : va_G} {N0 : Nat} {gp : Nat → Nat} {ad : Nat → Nat} {XF : x_X}
def wX2_at_b19 (post : Option Nat → Prop) (ad : Nat → Nat) (p1 : Int32) (F : (Nat → Int32)) (M : (Nat → Nat → Int32)) (h : x_H) : Prop :=
  post none 
theorem kX2_at_b19 {post : Option Nat → Prop} {p1 : Int32} {F : (Nat → Int32)} {M : (Nat → Nat → Int32)} {h : x_H} (C : x_C p s m args meth c cX2_at 2 (some (.object "PageServer$Entry")) RX2 D N0 gp) {H : Heap} {locs : List Loc} {ls : Array Slot} (hR : x_R D s N0 (fixC ad F M ++ XF) h H) (hS : va_S (x_A N0) s.heap H locs) (hl : lv_has ls 2 []) (hw : wX2_at_b19 post ad p1 F M h ) : W p l e rmX2_at s m args below meth c H locs 0 0 (MQ below (x_Qc D N0 (x_Va (qPa (fixC ad F M ++ XF) h post))) args s 0 0 (x_A N0)) (F0 m 19 ls []) := by
  obtain ⟨⟨hx, hb, hml, hown, hts⟩, hr, hlocks, hG, hN⟩ := id C
  unfold wX2_at_b19 at hw
  refine lv_null hx hb dX2_at_19 ?_
  exact x_enda (v := none) C (Or.inl ⟨_, rfl⟩) hR hS ⟨_, rfl, ⟨rfl, rfl, hw⟩⟩ (Nat.le_refl _) (Nat.le_refl _) dX2_at_20
def wX2_at_b59 (post : Option Nat → Prop) (ad : Nat → Nat) (p1 : Int32) (F : (Nat → Int32)) (M : (Nat → Nat → Int32)) (h : x_H) (s0 : Nat) : Prop :=
  post (some s0) 
theorem kX2_at_b59 {post : Option Nat → Prop} {p1 : Int32} {F : (Nat → Int32)} {M : (Nat → Nat → Int32)} {h : x_H} (C : x_C p s m args meth c cX2_at 2 (some (.object "PageServer$Entry")) RX2 D N0 gp) {s0 : Nat} {H : Heap} {locs : List Loc} {ls : Array Slot} (hR : x_R D s N0 (fixC ad F M ++ XF) h H) (hS : va_S (x_A N0) s.heap H locs) (hl : lv_has ls 2 []) (hw : wX2_at_b59 post ad p1 F M h s0) : W p l e rmX2_at s m args below meth c H locs 0 0 (MQ below (x_Qc D N0 (x_Va (qPa (fixC ad F M ++ XF) h post))) args s 0 0 (x_A N0)) (F0 m 59 ls [.ref s0]) := by
  obtain ⟨⟨hx, hb, hml, hown, hts⟩, hr, hlocks, hG, hN⟩ := id C
  unfold wX2_at_b59 at hw
  exact x_enda (v := (some s0)) C (Or.inl ⟨_, rfl⟩) hR hS ⟨_, rfl, ⟨rfl, rfl, hw⟩⟩ (Nat.le_refl _) (Nat.le_refl _) dX2_at_59
end
def wX2_at (post : Option Nat → Prop) (ad : Nat → Nat) (p1 : Int32) (F : (Nat → Int32)) (M : (Nat → Nat → Int32)) (h : x_H) : Prop :=
  (p1 < 1 → wX2_at_b19 post ad p1 F M h ) ∧ (¬ p1 < 1 → ∃ (t26 : Nat) (fs27 : List Value), h (ad 101) = some (t26, .inr (7, fs27)) ∧ wJ2_size (fun r25 => (p1 ≤ ((7 : Int32) + r25) → ((7 : Int32) < p1 → ∃ (t32 : Nat) (fs33 : List Value), h (ad 101) = some (t32, .inr (7, fs33)) ∧ wJ2_get (fun r31 => ∃ a35 : Nat, r31 = some a35 ∧ ∃ (t36 : Nat) (fs37 : List Value), h a35 = some (t36, .inr (2, fs37)) ∧ wX2_at_b59 post ad p1 F M h a35) (ad 101) ((p1 - 1) - 7) h) ∧ (¬ (7 : Int32) < p1 → ∃ (t40 : Nat) (fs41 : List Value), h (ad 100) = some (t40, .inr (7, fs41)) ∧ wJ2_get (fun r39 => ∃ a43 : Nat, r39 = some a43 ∧ ∃ (t44 : Nat) (fs45 : List Value), h a43 = some (t44, .inr (2, fs45)) ∧ wX2_at_b59 post ad p1 F M h a43) (ad 100) (p1 - 1) h)) ∧ (¬ p1 ≤ ((7 : Int32) + r25) → wX2_at_b19 post ad p1 F M h )) (ad 101) h)
theorem kX2_at (l : Launch) (D : va_G) (N0 : Nat) (gp : Nat → Nat) (ad : Nat → Nat) (XF : x_X) (p1 : Int32) (F : (Nat → Int32)) (M : (Nat → Nat → Int32)) (h : x_H) (post : Option Nat → Prop) (hw : wX2_at post ad p1 F M h ) : Met l yX2_at (ws_ yX2_at cX2_at 2 (some (.object "PageServer$Entry"))) rmX2_at (x_Pc D N0 gp (fixC ad F M ++ XF) h [.ref (ad 3), .int p1]) (x_Qc D N0 (x_Va (qPa (fixC ad F M ++ XF) h post))) 0 0 (x_A N0) := by
  refine x_start (lv := [(0, .ref (ad 3)), (1, .int p1)]) (by decide) rfl (Nat.le_of_ble_eq_true rfl) rfl ?_
  intro p e s m below meth c C hR ls hl
  have hS : va_S (x_A N0) s.heap s.heap [] := va_S.rf
  obtain ⟨⟨hx, hb, hml, hown, hts⟩, hr, hlocks, hG, hN⟩ := id C
  unfold wX2_at at hw
  refine lv_iload_n hx hb dX2_at_0 rfl (lv_at hl 1 rfl) ?_
  refine lv_iconst (v := 1) hx hb dX2_at_1 (by decide) ?_
  refine lv_icmp_lt (tgt := 19) hx hb dX2_at_2 (by decide) (fun c24 => ?_) (fun c24 => ?_)
  · replace hw := hw.1 c24
    exact kX2_at_b19 C hR hS (lv_sub hl [] rfl) hw
  · replace hw := hw.2 c24
    refine lv_iload_n hx hb dX2_at_5 rfl (lv_at hl 1 rfl) ?_
    refine lv_bipush (v := 7) hx hb dX2_at_6 (by decide) ?_
    refine lv_aload_n hx hb dX2_at_8 rfl (lv_at hl 0 rfl) ?_
    refine x_get (ci := 1) (Cn := RX2) (T := TX2) (N := 3) (v := .ref (ad 101)) C (hR.rdX 1 rfl) rfl in_X2 1 (by decide) q246 (fun _ h9 => h9) rfl dX2_at_9 ?_
    obtain ⟨t26, fs27, he28, hw⟩ := hw
    refine x_calli0 (x_runV (n := 0) (As := []) C hR hS (kJ2_size l D N0 gp _ (ad 101) h _ hw) (lw_V q689 q359 q360 q88 q361) rfl rfl (by decide +kernel) ⟨Nat.le_of_ble_eq_true rfl, Nat.le_of_ble_eq_true rfl⟩ (x_recv C (hR.rdH he28) rfl) rfl hl.1 rfl (Nat.le_of_ble_eq_true rfl) dX2_at_12 ⟨Nat.le_refl _, Nat.le_refl _⟩) hS (fun r25 X1 h1 H locs hq hR hS => ?_)
    clear hw
    obtain ⟨e1, e2, hw⟩ := hq
    rw [e1, e2] at hR
    refine lv_iadd hx hb dX2_at_15 ?_
    refine lv_icmp_le (tgt := 21) hx hb dX2_at_16 (by decide) (fun c29 => ?_) (fun c29 => ?_)
    · replace hw := hw.1 c29
      refine lv_iload_n hx hb dX2_at_21 rfl (lv_at hl 1 rfl) ?_
      refine lv_bipush (v := 7) hx hb dX2_at_22 (by decide) ?_
      refine lv_icmp_gt (tgt := 43) hx hb dX2_at_24 (by decide) (fun c30 => ?_) (fun c30 => ?_)
      · replace hw := hw.1 c30
        refine lv_aload_n hx hb dX2_at_43 rfl (lv_at hl 0 rfl) ?_
        refine x_get (ci := 1) (Cn := RX2) (T := TX2) (N := 3) (v := .ref (ad 101)) C (hR.rdX 1 rfl) rfl in_X2 1 (by decide) q246 (fun _ h9 => h9) rfl dX2_at_44 ?_
        refine lv_iload_n hx hb dX2_at_47 rfl (lv_at hl 1 rfl) ?_
        refine lv_iconst (v := 1) hx hb dX2_at_48 (by decide) ?_
        refine lv_isub hx hb dX2_at_49 ?_
        refine lv_bipush (v := 7) hx hb dX2_at_50 (by decide) ?_
        refine lv_isub hx hb dX2_at_52 ?_
        obtain ⟨t32, fs33, he34, hw⟩ := hw
        refine x_calla0 (x_runV (n := 1) (As := [.int ((p1 - 1) - 7)]) C hR hS (kJ2_get l D N0 gp _ (ad 101) ((p1 - 1) - 7) h _ hw) (lw_V q690 q599 q600 q88 q601) rfl rfl (by decide +kernel) ⟨Nat.le_of_ble_eq_true rfl, Nat.le_of_ble_eq_true rfl⟩ (x_recv C (hR.rdH he34) rfl) rfl hl.1 rfl (Nat.le_of_ble_eq_true rfl) dX2_at_53 ⟨Nat.le_refl _, Nat.le_refl _⟩) hS (fun r31 X1 h1 H locs hq hR hS => ?_)
        clear hw
        obtain ⟨e1, e2, hw⟩ := hq
        rw [e1, e2] at hR
        obtain ⟨a35, ea35, hw⟩ := hw
        rw [ea35]
        obtain ⟨t36, fs37, he38, hw⟩ := hw
        refine x_castH (ci := 2) (Cn := RX3) (T := TX3) (N := 2) C hR he38 rfl q157 dX2_at_56 ?_
        exact kX2_at_b59 C hR hS (lv_sub hl [] rfl) hw
      · replace hw := hw.2 c30
        refine lv_aload_n hx hb dX2_at_27 rfl (lv_at hl 0 rfl) ?_
        refine x_get (ci := 1) (Cn := RX2) (T := TX2) (N := 3) (v := .ref (ad 100)) C (hR.rdX 1 rfl) rfl in_X2 0 (by decide) q245 (fun _ h9 => h9) rfl dX2_at_28 ?_
        refine lv_iload_n hx hb dX2_at_31 rfl (lv_at hl 1 rfl) ?_
        refine lv_iconst (v := 1) hx hb dX2_at_32 (by decide) ?_
        refine lv_isub hx hb dX2_at_33 ?_
        obtain ⟨t40, fs41, he42, hw⟩ := hw
        refine x_calla0 (x_runV (n := 1) (As := [.int (p1 - 1)]) C hR hS (kJ2_get l D N0 gp _ (ad 100) (p1 - 1) h _ hw) (lw_V q690 q599 q600 q88 q601) rfl rfl (by decide +kernel) ⟨Nat.le_of_ble_eq_true rfl, Nat.le_of_ble_eq_true rfl⟩ (x_recv C (hR.rdH he42) rfl) rfl hl.1 rfl (Nat.le_of_ble_eq_true rfl) dX2_at_34 ⟨Nat.le_refl _, Nat.le_refl _⟩) hS (fun r39 X1 h1 H locs hq hR hS => ?_)
        clear hw
        obtain ⟨e1, e2, hw⟩ := hq
        rw [e1, e2] at hR
        obtain ⟨a43, ea43, hw⟩ := hw
        rw [ea43]
        obtain ⟨t44, fs45, he46, hw⟩ := hw
        refine x_castH (ci := 2) (Cn := RX3) (T := TX3) (N := 2) C hR he46 rfl q157 dX2_at_37 ?_
        refine lv_goto (tgt := 59) hx hb dX2_at_40 (by decide) ?_
        exact kX2_at_b59 C hR hS (lv_sub hl [] rfl) hw
    · replace hw := hw.2 c29
      exact kX2_at_b19 C hR hS (lv_sub hl [] rfl) hw
/-- PageServer$Reader.known(LPageServer$Table;I)LPageServer$Entry; -/
abbrev rmX4_known : Room := { frames := 4, cells := 0, slots := 0, locals := 85 }
section
variable {p : Program} {l : Launch} {e : Env} {s : State} {m : MethodId} {args : Array Value} {below : List Frame} {meth : Method} {c : Code} {D : va_G} {N0 : Nat} {gp : Nat → Nat} {ad : Nat → Nat} {XF : x_X}
def wX4_known_b23 (post : Option Nat → (Nat → Int32) → (Nat → Nat → Int32) → x_H → Prop) (ad : Nat → Nat) (p2 : Int32) (F : (Nat → Int32)) (M : (Nat → Nat → Int32)) (h : x_H) (x3 : Option Nat) (s0 : Int32) : Prop :=
  x_bit s0 ∧ post x3 (upd F 204 s0) M h
theorem kX4_known_b23 {post : Option Nat → (Nat → Int32) → (Nat → Nat → Int32) → x_H → Prop} {p2 : Int32} (C : x_C p s m args meth c cX4_known 4 (some (.object "PageServer$Entry")) RX4 D N0 gp) {F : (Nat → Int32)} {M : (Nat → Nat → Int32)} {h : x_H} {x3 : Option Nat} {s0 : Int32} {H : Heap} {locs : List Loc} {ls : Array Slot} (hR : x_R D s N0 (fixC ad F M ++ XF) h H) (hS : va_S (x_A N0) s.heap H locs) (hl : lv_has ls 4 [(3, va_rf x3)]) (hw : wX4_known_b23 post ad p2 F M h x3 s0) : W p l e rmX4_known s m args below meth c H locs 0 0 (MQ below (x_Qc D N0 (x_Va (qCa ad XF post))) args s 0 0 (x_A N0)) (F0 m 23 ls [.int s0, .ref (ad 4)]) := by
  obtain ⟨⟨hx, hb, hml, hown, hts⟩, hr, hlocks, hG, hN⟩ := id C
  unfold wX4_known_b23 at hw
  obtain ⟨z8, hw⟩ := hw
  refine x_putX (ci := 3) (Cn := RX4) (T := TX4) (N := 5) (v := .int s0) C hR hS 2 rfl rfl in_X4 tyX4_ok nmX4 4 (by decide) q301 (fun _ h9 => h9) rfl (x_bitN z8) (x_bitF z8) (Nat.le_of_ble_eq_true rfl) (sC_f204 ..) dX4_known_23 (fun H locs hR hS => ?_)
  refine x_aload_nO hx hb dX4_known_26 rfl (lv_at hl 0 rfl) ?_
  exact x_enda (v := x3) C (Or.inl ⟨_, rfl⟩) hR hS ⟨_, rfl, ⟨_, _, rfl, hw⟩⟩ (Nat.le_refl _) (Nat.le_refl _) dX4_known_27
def wX4_known_b22 (post : Option Nat → (Nat → Int32) → (Nat → Nat → Int32) → x_H → Prop) (ad : Nat → Nat) (p2 : Int32) (F : (Nat → Int32)) (M : (Nat → Nat → Int32)) (h : x_H) (x3 : Option Nat) : Prop :=
  wX4_known_b23 post ad p2 F M h x3 0
theorem kX4_known_b22 {post : Option Nat → (Nat → Int32) → (Nat → Nat → Int32) → x_H → Prop} {p2 : Int32} (C : x_C p s m args meth c cX4_known 4 (some (.object "PageServer$Entry")) RX4 D N0 gp) {F : (Nat → Int32)} {M : (Nat → Nat → Int32)} {h : x_H} {x3 : Option Nat} {H : Heap} {locs : List Loc} {ls : Array Slot} (hR : x_R D s N0 (fixC ad F M ++ XF) h H) (hS : va_S (x_A N0) s.heap H locs) (hl : lv_has ls 4 [(3, va_rf x3)]) (hw : wX4_known_b22 post ad p2 F M h x3) : W p l e rmX4_known s m args below meth c H locs 0 0 (MQ below (x_Qc D N0 (x_Va (qCa ad XF post))) args s 0 0 (x_A N0)) (F0 m 22 ls [.ref (ad 4)]) := by
  obtain ⟨⟨hx, hb, hml, hown, hts⟩, hr, hlocks, hG, hN⟩ := id C
  unfold wX4_known_b22 at hw
  refine lv_iconst (v := 0) hx hb dX4_known_22 (by decide) ?_
  exact kX4_known_b23 C hR hS (lv_sub hl [0] rfl) hw
end
def wX4_known (post : Option Nat → (Nat → Int32) → (Nat → Nat → Int32) → x_H → Prop) (ad : Nat → Nat) (p2 : Int32) (F : (Nat → Int32)) (M : (Nat → Nat → Int32)) (h : x_H) : Prop :=
  wX2_at (fun r5 => ((F 204) = 0 → wX4_known_b22 post ad p2 F M h r5) ∧ (¬ (F 204) = 0 → (r5 = none → wX4_known_b22 post ad p2 F M h none) ∧ (∀ a7 : Nat, r5 = some a7 → wX4_known_b23 post ad p2 F M h (some a7) 1))) ad p2 F M h
theorem kX4_known (l : Launch) (D : va_G) (N0 : Nat) (gp : Nat → Nat) (ad : Nat → Nat) (XF : x_X) (p2 : Int32) (F : (Nat → Int32)) (M : (Nat → Nat → Int32)) (h : x_H) (post : Option Nat → (Nat → Int32) → (Nat → Nat → Int32) → x_H → Prop) (hw : wX4_known post ad p2 F M h) : Met l yX4_known (ws_ yX4_known cX4_known 4 (some (.object "PageServer$Entry"))) rmX4_known (x_Pc D N0 gp (fixC ad F M ++ XF) h [.ref (ad 4), .ref (ad 3), .int p2]) (x_Qc D N0 (x_Va (qCa ad XF post))) 0 0 (x_A N0) := by
  refine x_start (lv := [(0, .ref (ad 4)), (1, .ref (ad 3)), (2, .int p2)]) (by decide) rfl (Nat.le_of_ble_eq_true rfl) rfl ?_
  intro p e s m below meth c C hR ls hl
  have hS : va_S (x_A N0) s.heap s.heap [] := va_S.rf
  obtain ⟨⟨hx, hb, hml, hown, hts⟩, hr, hlocks, hG, hN⟩ := id C
  unfold wX4_known at hw
  refine lv_aload_n hx hb dX4_known_0 rfl (lv_at hl 1 rfl) ?_
  refine lv_iload_n hx hb dX4_known_1 rfl (lv_at hl 2 rfl) ?_
  refine x_calla0 (x_runV (n := 1) (As := [.int p2]) C hR hS (kX2_at l D N0 gp ad XF p2 F M h _ hw) (lw_V q685 q686 q687 q89 q688) rfl rfl (by decide +kernel) ⟨Nat.le_of_ble_eq_true rfl, Nat.le_of_ble_eq_true rfl⟩ (x_recv C (hR.rdX 1 rfl) rfl) rfl hl.1 rfl (Nat.le_of_ble_eq_true rfl) dX4_known_2 ⟨Nat.le_refl _, Nat.le_refl _⟩) hS (fun r5 X1 h1 H locs hq hR hS => ?_)
  clear hw
  obtain ⟨e1, e2, hw⟩ := hq
  rw [e1, e2] at hR
  refine x_astore_nO (lv' := [(3, va_rf r5), (0, .ref (ad 4)), (1, .ref (ad 3)), (2, .int p2)]) hx hb dX4_known_5 rfl hl (by decide) rfl (fun ls hl => ?_)
  refine lv_aload_n hx hb dX4_known_6 rfl (lv_at hl 1 rfl) ?_
  refine lv_aload_n hx hb dX4_known_7 rfl (lv_at hl 1 rfl) ?_
  refine x_get (ci := 3) (Cn := RX4) (T := TX4) (N := 5) (v := .int (F 204)) C (hR.rdX 2 rfl) rfl in_X4 4 (by decide) q301 (fun _ h9 => h9) rfl dX4_known_8 ?_
  refine lv_if_eq (tgt := 22) hx hb dX4_known_11 (by decide) (fun c6 => ?_) (fun c6 => ?_)
  · replace hw := hw.1 c6
    exact kX4_known_b22 C hR hS (lv_sub hl [0] rfl) hw
  · replace hw := hw.2 c6
    refine x_aload_nO hx hb dX4_known_14 rfl (lv_at hl 0 rfl) ?_
    cases r5 with
    | none =>
      replace hw := hw.1 rfl
      refine lv_ifnullN (tgt := 22) hx hb dX4_known_15 (by decide) ?_
      exact kX4_known_b22 C hR hS (lv_sub hl [0] rfl) hw
    | some a7 =>
      replace hw := hw.2 a7 rfl
      refine lv_ifnull hx hb dX4_known_15 ?_
      refine lv_iconst (v := 1) hx hb dX4_known_18 (by decide) ?_
      refine lv_goto (tgt := 23) hx hb dX4_known_19 (by decide) ?_
      exact kX4_known_b23 C hR hS (lv_sub hl [0] rfl) hw
/-- PageServer$Reader.string(I)Ljava/lang/String; -/
abbrev rmX4_string (mc0 ms0 : Nat) : Room := { frames := 6, cells := mc0, slots := ms0, locals := 152 }
section
variable {p : Program} {l : Launch} {e : Env} {s : State} {m : MethodId} {args : Array Value} {below : List Frame} {meth : Method} {c : Code} {D : va_G} {N0 : Nat} {gp : Nat → Nat} {ad : Nat → Nat} {XF : x_X} {mc0 ms0 : Nat}
def wX4_string_b84 (post : Option Nat → (Nat → Int32) → (Nat → Nat → Int32) → x_H → Prop) (K41 : (Nat → Int32) → (Nat → Nat → Int32) → x_H → Nat → Nat → Int32 → Int32 → Prop) (ad : Nat → Nat) (p1 : Int32) (F : (Nat → Int32)) (M : (Nat → Nat → Int32)) (h : x_H) (mc : Nat) (ms : Nat) (x2 : Int32) (x3 : Int32) (x4 : Int32) (s0 : Int32) : Prop :=
  x_bit s0 ∧ ∃ (t75 : Nat) (fs76 : List Value), h (ad 201) = some (t75, .inr (8, fs76)) ∧ ∃ ca70 cb71 mc72 ms73 : Nat, ca70 + mc72 ≤ mc ∧ cb71 + ms73 ≤ ms ∧ wJ8_append_3 (fun r69 h74 => K41 (upd F 204 s0) M h74 mc72 ms73 x2 (x3 + 1)) (ad 201) ((x4.toUInt32 % 65536).toInt32) h ca70 cb71
theorem kX4_string_b84 {post : Option Nat → (Nat → Int32) → (Nat → Nat → Int32) → x_H → Prop} {K41 : (Nat → Int32) → (Nat → Nat → Int32) → x_H → Nat → Nat → Int32 → Int32 → Prop} {p1 : Int32} (C : x_C p s m args meth c cX4_string 5 (some (.object "java/lang/String")) RX4 D N0 gp) (hK41 : ∀ (F : (Nat → Int32)) (M : (Nat → Nat → Int32)) (h : x_H) (mc : Nat) (ms : Nat) (x2 : Int32) (x3 : Int32) (k n : Nat) (H : Heap) (locs : List Loc) (ls : Array Slot), x_R D s N0 (fixC ad F M ++ XF) h H → va_S (x_A N0) s.heap H locs → k + mc ≤ mc0 → n + ms ≤ ms0 → lv_has ls 5 [(0, .ref (ad 4)), (2, .int x2), (3, .int x3)] → K41 F M h mc ms x2 x3 → W p l e (rmX4_string mc0 ms0) s m args below meth c H locs k n (MQ below (x_Qc D N0 (x_Va (qCa ad XF post))) args s mc0 ms0 (x_A N0)) (F0 m 41 ls [])) {F : (Nat → Int32)} {M : (Nat → Nat → Int32)} {h : x_H} {mc : Nat} {ms : Nat} {x2 : Int32} {x3 : Int32} {x4 : Int32} {s0 : Int32} {k n : Nat} {H : Heap} {locs : List Loc} {ls : Array Slot} (hR : x_R D s N0 (fixC ad F M ++ XF) h H) (hS : va_S (x_A N0) s.heap H locs) (hk : k + mc ≤ mc0) (hn : n + ms ≤ ms0) (hl : lv_has ls 5 [(0, .ref (ad 4)), (2, .int x2), (3, .int x3), (4, .int x4)]) (hw : wX4_string_b84 post K41 ad p1 F M h mc ms x2 x3 x4 s0) : W p l e (rmX4_string mc0 ms0) s m args below meth c H locs k n (MQ below (x_Qc D N0 (x_Va (qCa ad XF post))) args s mc0 ms0 (x_A N0)) (F0 m 84 ls [.int s0, .ref (ad 4)]) := by
  obtain ⟨⟨hx, hb, hml, hown, hts⟩, hr, hlocks, hG, hN⟩ := id C
  unfold wX4_string_b84 at hw
  obtain ⟨z68, hw⟩ := hw
  refine x_putX (ci := 3) (Cn := RX4) (T := TX4) (N := 5) (v := .int s0) C hR hS 2 rfl rfl in_X4 tyX4_ok nmX4 4 (by decide) q301 (fun _ h9 => h9) rfl (x_bitN z68) (x_bitF z68) (Nat.le_of_ble_eq_true rfl) (sC_f204 ..) dX4_string_84 (fun H locs hR hS => ?_)
  refine lv_aload_n hx hb dX4_string_87 rfl (lv_at hl 0 rfl) ?_
  refine x_get (ci := 3) (Cn := RX4) (T := TX4) (N := 5) (v := .ref (ad 201)) C (hR.rdX 2 rfl) rfl in_X4 1 (by decide) q297 (fun _ h9 => h9) rfl dX4_string_88 ?_
  refine lv_iload hx hb dX4_string_91 (lv_at hl 3 rfl) ?_
  refine lv_i2c hx hb dX4_string_93 rfl ?_
  obtain ⟨t75, fs76, he77, hw⟩ := hw
  obtain ⟨ca70, cb71, mc72, ms73, hca70, hcb71, hw⟩ := hw
  refine x_calla (x_runV (n := 1) (As := [.int ((x4.toUInt32 % 65536).toInt32)]) C hR hS (kJ8_append_3 l D N0 gp _ (ad 201) ((x4.toUInt32 % 65536).toInt32) h ca70 cb71 _ hw) (lw_V q929 q930 q931 q98 q932) rfl rfl (by decide +kernel) ⟨Nat.le_of_ble_eq_true rfl, Nat.le_of_ble_eq_true rfl⟩ (x_recv C (hR.rdH he77) rfl) rfl hl.1 rfl (Nat.le_of_ble_eq_true rfl) dX4_string_94 ⟨x_bud hk hca70, x_bud hn hcb71⟩) hS (fun r69 X1 h74 H locs hq hR hS => ?_)
  clear hw
  obtain ⟨e1, hw⟩ := hq
  rw [e1] at hR
  have hk := x_budN hk hca70
  have hn := x_budN hn hcb71
  refine lv_pop hx hb dX4_string_97 (x_cat1 _) ?_
  refine lv_iinc (v := x3 + 1) (lv' := [(3, .int (x3 + 1)), (0, .ref (ad 4)), (2, .int x2), (4, .int x4)]) hx hb dX4_string_98 hl (k := 2) rfl (x_inc 1 1 (by decide)) (by decide) rfl (fun ls hl => ?_)
  refine lv_goto (tgt := 41) hx hb dX4_string_101 (by decide) ?_
  exact hK41 _ _ _ _ _ _ _ _ _ _ _ _ hR hS hk hn (lv_sub hl [1, 2, 0] rfl) hw
def wX4_string_b83 (post : Option Nat → (Nat → Int32) → (Nat → Nat → Int32) → x_H → Prop) (K41 : (Nat → Int32) → (Nat → Nat → Int32) → x_H → Nat → Nat → Int32 → Int32 → Prop) (ad : Nat → Nat) (p1 : Int32) (F : (Nat → Int32)) (M : (Nat → Nat → Int32)) (h : x_H) (mc : Nat) (ms : Nat) (x2 : Int32) (x3 : Int32) (x4 : Int32) : Prop :=
  wX4_string_b84 post K41 ad p1 F M h mc ms x2 x3 x4 0
theorem kX4_string_b83 {post : Option Nat → (Nat → Int32) → (Nat → Nat → Int32) → x_H → Prop} {K41 : (Nat → Int32) → (Nat → Nat → Int32) → x_H → Nat → Nat → Int32 → Int32 → Prop} {p1 : Int32} (C : x_C p s m args meth c cX4_string 5 (some (.object "java/lang/String")) RX4 D N0 gp) (hK41 : ∀ (F : (Nat → Int32)) (M : (Nat → Nat → Int32)) (h : x_H) (mc : Nat) (ms : Nat) (x2 : Int32) (x3 : Int32) (k n : Nat) (H : Heap) (locs : List Loc) (ls : Array Slot), x_R D s N0 (fixC ad F M ++ XF) h H → va_S (x_A N0) s.heap H locs → k + mc ≤ mc0 → n + ms ≤ ms0 → lv_has ls 5 [(0, .ref (ad 4)), (2, .int x2), (3, .int x3)] → K41 F M h mc ms x2 x3 → W p l e (rmX4_string mc0 ms0) s m args below meth c H locs k n (MQ below (x_Qc D N0 (x_Va (qCa ad XF post))) args s mc0 ms0 (x_A N0)) (F0 m 41 ls [])) {F : (Nat → Int32)} {M : (Nat → Nat → Int32)} {h : x_H} {mc : Nat} {ms : Nat} {x2 : Int32} {x3 : Int32} {x4 : Int32} {k n : Nat} {H : Heap} {locs : List Loc} {ls : Array Slot} (hR : x_R D s N0 (fixC ad F M ++ XF) h H) (hS : va_S (x_A N0) s.heap H locs) (hk : k + mc ≤ mc0) (hn : n + ms ≤ ms0) (hl : lv_has ls 5 [(0, .ref (ad 4)), (2, .int x2), (3, .int x3), (4, .int x4)]) (hw : wX4_string_b83 post K41 ad p1 F M h mc ms x2 x3 x4) : W p l e (rmX4_string mc0 ms0) s m args below meth c H locs k n (MQ below (x_Qc D N0 (x_Va (qCa ad XF post))) args s mc0 ms0 (x_A N0)) (F0 m 83 ls [.ref (ad 4)]) := by
  obtain ⟨⟨hx, hb, hml, hown, hts⟩, hr, hlocks, hG, hN⟩ := id C
  unfold wX4_string_b83 at hw
  refine lv_iconst (v := 0) hx hb dX4_string_83 (by decide) ?_
  exact kX4_string_b84 C hK41 hR hS hk hn (lv_sub hl [0, 1, 2, 3] rfl) hw
def wX4_string_b104 (post : Option Nat → (Nat → Int32) → (Nat → Nat → Int32) → x_H → Prop) (ad : Nat → Nat) (p1 : Int32) (F : (Nat → Int32)) (M : (Nat → Nat → Int32)) (h : x_H) (mc : Nat) (ms : Nat) : Prop :=
  ∃ (t84 : Nat) (fs85 : List Value), h (ad 201) = some (t84, .inr (8, fs85)) ∧ ∃ ca79 cb80 mc81 ms82 : Nat, ca79 + mc81 ≤ mc ∧ cb80 + ms82 ≤ ms ∧ wJ8_toString (fun r78 h83 => post r78 F M h83) (ad 201) h ca79 cb80
theorem kX4_string_b104 {post : Option Nat → (Nat → Int32) → (Nat → Nat → Int32) → x_H → Prop} {p1 : Int32} (C : x_C p s m args meth c cX4_string 5 (some (.object "java/lang/String")) RX4 D N0 gp) {F : (Nat → Int32)} {M : (Nat → Nat → Int32)} {h : x_H} {mc : Nat} {ms : Nat} {k n : Nat} {H : Heap} {locs : List Loc} {ls : Array Slot} (hR : x_R D s N0 (fixC ad F M ++ XF) h H) (hS : va_S (x_A N0) s.heap H locs) (hk : k + mc ≤ mc0) (hn : n + ms ≤ ms0) (hl : lv_has ls 5 [(0, .ref (ad 4))]) (hw : wX4_string_b104 post ad p1 F M h mc ms) : W p l e (rmX4_string mc0 ms0) s m args below meth c H locs k n (MQ below (x_Qc D N0 (x_Va (qCa ad XF post))) args s mc0 ms0 (x_A N0)) (F0 m 104 ls []) := by
  obtain ⟨⟨hx, hb, hml, hown, hts⟩, hr, hlocks, hG, hN⟩ := id C
  unfold wX4_string_b104 at hw
  refine lv_aload_n hx hb dX4_string_104 rfl (lv_at hl 0 rfl) ?_
  refine x_get (ci := 3) (Cn := RX4) (T := TX4) (N := 5) (v := .ref (ad 201)) C (hR.rdX 2 rfl) rfl in_X4 1 (by decide) q297 (fun _ h9 => h9) rfl dX4_string_105 ?_
  obtain ⟨t84, fs85, he86, hw⟩ := hw
  obtain ⟨ca79, cb80, mc81, ms82, hca79, hcb80, hw⟩ := hw
  refine x_calla (x_runV (n := 0) (As := []) C hR hS (kJ8_toString l D N0 gp _ (ad 201) h ca79 cb80 _ hw) (lw_V q949 q852 q853 q98 q854) rfl rfl (by decide +kernel) ⟨Nat.le_of_ble_eq_true rfl, Nat.le_of_ble_eq_true rfl⟩ (x_recv C (hR.rdH he86) rfl) rfl hl.1 rfl (Nat.le_of_ble_eq_true rfl) dX4_string_108 ⟨x_bud hk hca79, x_bud hn hcb80⟩) hS (fun r78 X1 h83 H locs hq hR hS => ?_)
  clear hw
  obtain ⟨e1, hw⟩ := hq
  rw [e1] at hR
  have hk := x_budN hk hca79
  have hn := x_budN hn hcb80
  exact x_enda (v := r78) C (Or.inl ⟨_, rfl⟩) hR hS ⟨_, rfl, ⟨_, _, rfl, hw⟩⟩ (x_le hk) (x_le hn) dX4_string_111
def tX4_string_b41 (post : Option Nat → (Nat → Int32) → (Nat → Nat → Int32) → x_H → Prop) (K41 : (Nat → Int32) → (Nat → Nat → Int32) → x_H → Nat → Nat → Int32 → Int32 → Prop) (ad : Nat → Nat) (p1 : Int32) (F : (Nat → Int32)) (M : (Nat → Nat → Int32)) (h : x_H) (mc : Nat) (ms : Nat) (x2 : Int32) (x3 : Int32) : Prop :=
  (x2 ≤ x3 → wX4_string_b104 post ad p1 F M h mc ms) ∧ (¬ x2 ≤ x3 → ((F 204) = 0 → wX4_string_b104 post ad p1 F M h mc ms) ∧ (¬ (F 204) = 0 → wX4_next (fun r62 F63 M63 h64 => ((F63 204) = 0 → wX4_string_b83 post K41 ad p1 F63 M63 h64 mc ms x2 x3 r62) ∧ (¬ (F63 204) = 0 → wX1_outside (fun r66 => (r66 = 0 → wX4_string_b84 post K41 ad p1 F63 M63 h64 mc ms x2 x3 r62 1) ∧ (¬ r66 = 0 → wX4_string_b83 post K41 ad p1 F63 M63 h64 mc ms x2 x3 r62)) r62 33 126)) ad F M h))
def wX4_string_b41 (post : Option Nat → (Nat → Int32) → (Nat → Nat → Int32) → x_H → Prop) (ad : Nat → Nat) (p1 : Int32) : Nat → (Nat → Int32) → (Nat → Nat → Int32) → x_H → Nat → Nat → Int32 → Int32 → Prop
  | 0 => fun _ _ _ _ _ _ _ => False
  | n + 1 => fun F M h mc ms x2 x3 => tX4_string_b41 post (wX4_string_b41 post ad p1 n) ad p1 F M h mc ms x2 x3
theorem kX4_string_b41 {post : Option Nat → (Nat → Int32) → (Nat → Nat → Int32) → x_H → Prop} {p1 : Int32} (C : x_C p s m args meth c cX4_string 5 (some (.object "java/lang/String")) RX4 D N0 gp) : ∀ (nn : Nat) (F : (Nat → Int32)) (M : (Nat → Nat → Int32)) (h : x_H) (mc : Nat) (ms : Nat) (x2 : Int32) (x3 : Int32) (k n : Nat) (H : Heap) (locs : List Loc) (ls : Array Slot), x_R D s N0 (fixC ad F M ++ XF) h H → va_S (x_A N0) s.heap H locs → k + mc ≤ mc0 → n + ms ≤ ms0 → lv_has ls 5 [(0, .ref (ad 4)), (2, .int x2), (3, .int x3)] → wX4_string_b41 post ad p1 nn F M h mc ms x2 x3 → W p l e (rmX4_string mc0 ms0) s m args below meth c H locs k n (MQ below (x_Qc D N0 (x_Va (qCa ad XF post))) args s mc0 ms0 (x_A N0)) (F0 m 41 ls []) := by
  obtain ⟨⟨hx, hb, hml, hown, hts⟩, hr, hlocks, hG, hN⟩ := id C
  intro nn
  induction nn with
  | zero =>
    intro F M h mc ms x2 x3 k n H locs ls hR hS hk hn hl hw
    exact False.elim hw
  | succ nn ih =>
    intro F M h mc ms x2 x3 k n H locs ls hR hS hk hn hl hw
    have hK41 := ih
    replace hw : tX4_string_b41 post (wX4_string_b41 post ad p1 nn) ad p1 F M h mc ms x2 x3 := hw
    unfold tX4_string_b41 at hw
    refine lv_iload_n hx hb dX4_string_41 rfl (lv_at hl 2 rfl) ?_
    refine lv_iload_n hx hb dX4_string_42 rfl (lv_at hl 1 rfl) ?_
    refine lv_icmp_ge (tgt := 104) hx hb dX4_string_43 (by decide) (fun c60 => ?_) (fun c60 => ?_)
    · replace hw := hw.1 c60
      exact kX4_string_b104 C hR hS hk hn (lv_sub hl [0] rfl) hw
    · replace hw := hw.2 c60
      refine lv_aload_n hx hb dX4_string_46 rfl (lv_at hl 0 rfl) ?_
      refine x_get (ci := 3) (Cn := RX4) (T := TX4) (N := 5) (v := .int (F 204)) C (hR.rdX 2 rfl) rfl in_X4 4 (by decide) q301 (fun _ h9 => h9) rfl dX4_string_47 ?_
      refine lv_if_eq (tgt := 104) hx hb dX4_string_50 (by decide) (fun c61 => ?_) (fun c61 => ?_)
      · replace hw := hw.1 c61
        exact kX4_string_b104 C hR hS hk hn (lv_sub hl [0] rfl) hw
      · replace hw := hw.2 c61
        refine lv_aload_n hx hb dX4_string_53 rfl (lv_at hl 0 rfl) ?_
        refine x_calli0 (x_runV (n := 0) (As := []) C hR hS (kX4_next l D N0 gp ad XF F M h _ hw) (lw_V q677 q678 q679 q96 q680) rfl rfl (by decide +kernel) ⟨Nat.le_of_ble_eq_true rfl, Nat.le_of_ble_eq_true rfl⟩ (x_recv C (hR.rdX 2 rfl) rfl) rfl hl.1 rfl (Nat.le_of_ble_eq_true rfl) dX4_string_54 ⟨x_bud0 hk, x_bud0 hn⟩) hS (fun r62 X1 h64 H locs hq hR hS => ?_)
        clear hw
        obtain ⟨F63, M63, e1, hw⟩ := hq
        rw [e1] at hR
        refine lv_istore (lv' := [(4, .int r62), (0, .ref (ad 4)), (2, .int x2), (3, .int x3)]) hx hb dX4_string_57 hl (by decide) rfl (fun ls hl => ?_)
        refine lv_aload_n hx hb dX4_string_59 rfl (lv_at hl 1 rfl) ?_
        refine lv_aload_n hx hb dX4_string_60 rfl (lv_at hl 1 rfl) ?_
        refine x_get (ci := 3) (Cn := RX4) (T := TX4) (N := 5) (v := .int (F63 204)) C (hR.rdX 2 rfl) rfl in_X4 4 (by decide) q301 (fun _ h9 => h9) rfl dX4_string_61 ?_
        refine lv_if_eq (tgt := 83) hx hb dX4_string_64 (by decide) (fun c65 => ?_) (fun c65 => ?_)
        · replace hw := hw.1 c65
          exact kX4_string_b83 C hK41 hR hS hk hn (lv_sub hl [1, 2, 3, 0] rfl) hw
        · replace hw := hw.2 c65
          refine lv_iload hx hb dX4_string_67 (lv_at hl 0 rfl) ?_
          refine lv_bipush (v := 33) hx hb dX4_string_69 (by decide) ?_
          refine lv_bipush (v := 126) hx hb dX4_string_71 (by decide) ?_
          refine x_calli0 (x_runSN (n := 3) (As := [.int r62, .int 33, .int 126]) C hR hS (kX1_outside l D N0 gp _ _ r62 33 126 _ hw) q482 q85 q928 q481 rfl rfl (by decide +kernel) ⟨Nat.le_of_ble_eq_true rfl, Nat.le_of_ble_eq_true rfl⟩ rfl hl.1 rfl (Nat.le_of_ble_eq_true rfl) dX4_string_73 ⟨x_bud0 hk, x_bud0 hn⟩) hS (fun r66 X1 h1 H locs hq hR hS => ?_)
          clear hw
          obtain ⟨e1, e2, hw⟩ := hq
          rw [e1, e2] at hR
          refine lv_if_ne (tgt := 83) hx hb dX4_string_76 (by decide) (fun c67 => ?_) (fun c67 => ?_)
          · replace hw := hw.2 c67
            exact kX4_string_b83 C hK41 hR hS hk hn (lv_sub hl [1, 2, 3, 0] rfl) hw
          · replace hw := hw.1 c67
            refine lv_iconst (v := 1) hx hb dX4_string_79 (by decide) ?_
            refine lv_goto (tgt := 84) hx hb dX4_string_80 (by decide) ?_
            exact kX4_string_b84 C hK41 hR hS hk hn (lv_sub hl [1, 2, 3, 0] rfl) hw
def wX4_string_b36 (post : Option Nat → (Nat → Int32) → (Nat → Nat → Int32) → x_H → Prop) (ad : Nat → Nat) (p1 : Int32) (F : (Nat → Int32)) (M : (Nat → Nat → Int32)) (h : x_H) (mc : Nat) (ms : Nat) (x2 : Int32) (s0 : Int32) : Prop :=
  x_bit s0 ∧ ∃ n59 : Nat, wX4_string_b41 post ad p1 n59 (upd F 204 s0) M h mc ms x2 0
theorem kX4_string_b36 {post : Option Nat → (Nat → Int32) → (Nat → Nat → Int32) → x_H → Prop} {p1 : Int32} (C : x_C p s m args meth c cX4_string 5 (some (.object "java/lang/String")) RX4 D N0 gp) {F : (Nat → Int32)} {M : (Nat → Nat → Int32)} {h : x_H} {mc : Nat} {ms : Nat} {x2 : Int32} {s0 : Int32} {k n : Nat} {H : Heap} {locs : List Loc} {ls : Array Slot} (hR : x_R D s N0 (fixC ad F M ++ XF) h H) (hS : va_S (x_A N0) s.heap H locs) (hk : k + mc ≤ mc0) (hn : n + ms ≤ ms0) (hl : lv_has ls 5 [(0, .ref (ad 4)), (2, .int x2)]) (hw : wX4_string_b36 post ad p1 F M h mc ms x2 s0) : W p l e (rmX4_string mc0 ms0) s m args below meth c H locs k n (MQ below (x_Qc D N0 (x_Va (qCa ad XF post))) args s mc0 ms0 (x_A N0)) (F0 m 36 ls [.int s0, .ref (ad 4)]) := by
  obtain ⟨⟨hx, hb, hml, hown, hts⟩, hr, hlocks, hG, hN⟩ := id C
  unfold wX4_string_b36 at hw
  obtain ⟨z58, hw⟩ := hw
  refine x_putX (ci := 3) (Cn := RX4) (T := TX4) (N := 5) (v := .int s0) C hR hS 2 rfl rfl in_X4 tyX4_ok nmX4 4 (by decide) q301 (fun _ h9 => h9) rfl (x_bitN z58) (x_bitF z58) (Nat.le_of_ble_eq_true rfl) (sC_f204 ..) dX4_string_36 (fun H locs hR hS => ?_)
  refine lv_iconst (v := 0) hx hb dX4_string_39 (by decide) ?_
  refine lv_istore_n (lv' := [(3, .int 0), (0, .ref (ad 4)), (2, .int x2)]) hx hb dX4_string_40 rfl hl (by decide) rfl (fun ls hl => ?_)
  obtain ⟨n59, hw⟩ := hw
  exact kX4_string_b41 C n59 _ _ _ _ _ _ _ _ _ _ _ _ hR hS hk hn (lv_sub hl [1, 2, 0] rfl) hw
def wX4_string_b35 (post : Option Nat → (Nat → Int32) → (Nat → Nat → Int32) → x_H → Prop) (ad : Nat → Nat) (p1 : Int32) (F : (Nat → Int32)) (M : (Nat → Nat → Int32)) (h : x_H) (mc : Nat) (ms : Nat) (x2 : Int32) : Prop :=
  wX4_string_b36 post ad p1 F M h mc ms x2 0
theorem kX4_string_b35 {post : Option Nat → (Nat → Int32) → (Nat → Nat → Int32) → x_H → Prop} {p1 : Int32} (C : x_C p s m args meth c cX4_string 5 (some (.object "java/lang/String")) RX4 D N0 gp) {F : (Nat → Int32)} {M : (Nat → Nat → Int32)} {h : x_H} {mc : Nat} {ms : Nat} {x2 : Int32} {k n : Nat} {H : Heap} {locs : List Loc} {ls : Array Slot} (hR : x_R D s N0 (fixC ad F M ++ XF) h H) (hS : va_S (x_A N0) s.heap H locs) (hk : k + mc ≤ mc0) (hn : n + ms ≤ ms0) (hl : lv_has ls 5 [(0, .ref (ad 4)), (2, .int x2)]) (hw : wX4_string_b35 post ad p1 F M h mc ms x2) : W p l e (rmX4_string mc0 ms0) s m args below meth c H locs k n (MQ below (x_Qc D N0 (x_Va (qCa ad XF post))) args s mc0 ms0 (x_A N0)) (F0 m 35 ls [.ref (ad 4)]) := by
  obtain ⟨⟨hx, hb, hml, hown, hts⟩, hr, hlocks, hG, hN⟩ := id C
  unfold wX4_string_b35 at hw
  refine lv_iconst (v := 0) hx hb dX4_string_35 (by decide) ?_
  exact kX4_string_b36 C hR hS hk hn (lv_sub hl [0, 1] rfl) hw
end
def wX4_string (post : Option Nat → (Nat → Int32) → (Nat → Nat → Int32) → x_H → Prop) (ad : Nat → Nat) (p1 : Int32) (F : (Nat → Int32)) (M : (Nat → Nat → Int32)) (h : x_H) (mc : Nat) (ms : Nat) : Prop :=
  wX4_next (fun r44 F45 M45 h46 => ∃ (t52 : Nat) (fs53 : List Value), h46 (ad 201) = some (t52, .inr (8, fs53)) ∧ ∃ ca47 cb48 mc49 ms50 : Nat, ca47 + mc49 ≤ mc ∧ cb48 + ms50 ≤ ms ∧ wJ8_setLength (fun h51 => ((F45 204) = 0 → wX4_string_b35 post ad p1 F45 M45 h51 mc49 ms50 r44) ∧ (¬ (F45 204) = 0 → wX1_outside (fun r56 => (r56 = 0 → wX4_string_b36 post ad p1 F45 M45 h51 mc49 ms50 r44 1) ∧ (¬ r56 = 0 → wX4_string_b35 post ad p1 F45 M45 h51 mc49 ms50 r44)) r44 p1 20)) (ad 201) 0 h46 ca47 cb48) ad F M h
theorem kX4_string (l : Launch) (D : va_G) (N0 : Nat) (gp : Nat → Nat) (ad : Nat → Nat) (XF : x_X) (p1 : Int32) (F : (Nat → Int32)) (M : (Nat → Nat → Int32)) (h : x_H) (mc : Nat) (ms : Nat) (post : Option Nat → (Nat → Int32) → (Nat → Nat → Int32) → x_H → Prop) (hw : wX4_string post ad p1 F M h mc ms) : Met l yX4_string (ws_ yX4_string cX4_string 5 (some (.object "java/lang/String"))) (rmX4_string mc ms) (x_Pc D N0 gp (fixC ad F M ++ XF) h [.ref (ad 4), .int p1]) (x_Qc D N0 (x_Va (qCa ad XF post))) mc ms (x_A N0) := by
  refine x_start (lv := [(0, .ref (ad 4)), (1, .int p1)]) (by decide) rfl (Nat.le_of_ble_eq_true rfl) rfl ?_
  intro p e s m below meth c C hR ls hl
  have hS : va_S (x_A N0) s.heap s.heap [] := va_S.rf
  obtain ⟨⟨hx, hb, hml, hown, hts⟩, hr, hlocks, hG, hN⟩ := id C
  unfold wX4_string at hw
  have hk : 0 + mc ≤ mc := Nat.le_of_eq (Nat.zero_add _)
  have hn : 0 + ms ≤ ms := Nat.le_of_eq (Nat.zero_add _)
  refine lv_aload_n hx hb dX4_string_0 rfl (lv_at hl 0 rfl) ?_
  refine x_calli0 (x_runV (n := 0) (As := []) C hR hS (kX4_next l D N0 gp ad XF F M h _ hw) (lw_V q677 q678 q679 q96 q680) rfl rfl (by decide +kernel) ⟨Nat.le_of_ble_eq_true rfl, Nat.le_of_ble_eq_true rfl⟩ (x_recv C (hR.rdX 2 rfl) rfl) rfl hl.1 rfl (Nat.le_of_ble_eq_true rfl) dX4_string_1 ⟨x_bud0 hk, x_bud0 hn⟩) hS (fun r44 X1 h46 H locs hq hR hS => ?_)
  clear hw
  obtain ⟨F45, M45, e1, hw⟩ := hq
  rw [e1] at hR
  refine lv_istore_n (lv' := [(2, .int r44), (0, .ref (ad 4)), (1, .int p1)]) hx hb dX4_string_4 rfl hl (by decide) rfl (fun ls hl => ?_)
  refine lv_aload_n hx hb dX4_string_5 rfl (lv_at hl 1 rfl) ?_
  refine x_get (ci := 3) (Cn := RX4) (T := TX4) (N := 5) (v := .ref (ad 201)) C (hR.rdX 2 rfl) rfl in_X4 1 (by decide) q297 (fun _ h9 => h9) rfl dX4_string_6 ?_
  refine lv_iconst (v := 0) hx hb dX4_string_9 (by decide) ?_
  obtain ⟨t52, fs53, he54, hw⟩ := hw
  obtain ⟨ca47, cb48, mc49, ms50, hca47, hcb48, hw⟩ := hw
  refine x_callv (x_runV (n := 1) (As := [.int 0]) C hR hS (kJ8_setLength l D N0 gp _ (ad 201) 0 h46 ca47 cb48 _ hw) (lw_V q700 q701 q702 q98 q703) rfl rfl (by decide +kernel) ⟨Nat.le_of_ble_eq_true rfl, Nat.le_of_ble_eq_true rfl⟩ (x_recv C (hR.rdH he54) rfl) rfl hl.1 rfl (Nat.le_of_ble_eq_true rfl) dX4_string_10 ⟨x_bud hk hca47, x_bud hn hcb48⟩) hS (fun X1 h51 H locs hq hR hS => ?_)
  clear hw
  obtain ⟨e1, hw⟩ := hq
  rw [e1] at hR
  have hk := x_budN hk hca47
  have hn := x_budN hn hcb48
  refine lv_aload_n hx hb dX4_string_13 rfl (lv_at hl 1 rfl) ?_
  refine lv_aload_n hx hb dX4_string_14 rfl (lv_at hl 1 rfl) ?_
  refine x_get (ci := 3) (Cn := RX4) (T := TX4) (N := 5) (v := .int (F45 204)) C (hR.rdX 2 rfl) rfl in_X4 4 (by decide) q301 (fun _ h9 => h9) rfl dX4_string_15 ?_
  refine lv_if_eq (tgt := 35) hx hb dX4_string_18 (by decide) (fun c55 => ?_) (fun c55 => ?_)
  · replace hw := hw.1 c55
    exact kX4_string_b35 C hR hS hk hn (lv_sub hl [1, 0] rfl) hw
  · replace hw := hw.2 c55
    refine lv_iload_n hx hb dX4_string_21 rfl (lv_at hl 0 rfl) ?_
    refine lv_iload_n hx hb dX4_string_22 rfl (lv_at hl 2 rfl) ?_
    refine lv_bipush (v := 20) hx hb dX4_string_23 (by decide) ?_
    refine x_calli0 (x_runSN (n := 3) (As := [.int r44, .int p1, .int 20]) C hR hS (kX1_outside l D N0 gp _ _ r44 p1 20 _ hw) q482 q85 q928 q481 rfl rfl (by decide +kernel) ⟨Nat.le_of_ble_eq_true rfl, Nat.le_of_ble_eq_true rfl⟩ rfl hl.1 rfl (Nat.le_of_ble_eq_true rfl) dX4_string_25 ⟨x_bud0 hk, x_bud0 hn⟩) hS (fun r56 X1 h1 H locs hq hR hS => ?_)
    clear hw
    obtain ⟨e1, e2, hw⟩ := hq
    rw [e1, e2] at hR
    refine lv_if_ne (tgt := 35) hx hb dX4_string_28 (by decide) (fun c57 => ?_) (fun c57 => ?_)
    · replace hw := hw.2 c57
      exact kX4_string_b35 C hR hS hk hn (lv_sub hl [1, 0] rfl) hw
    · replace hw := hw.1 c57
      refine lv_iconst (v := 1) hx hb dX4_string_31 (by decide) ?_
      refine lv_goto (tgt := 36) hx hb dX4_string_32 (by decide) ?_
      exact kX4_string_b36 C hR hS hk hn (lv_sub hl [1, 0] rfl) hw
