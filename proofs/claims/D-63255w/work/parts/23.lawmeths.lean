/-! the law's own methods, printed by gen/walk.py -/
set_option maxHeartbeats 4000000
set_option maxRecDepth 100000
def qOi (ad : Nat → Nat) (ao : Nat) (XF : x_X) (post : Int32 → (Nat → Int32) → (Nat → Nat → Int32) → (Nat → Int64) → x_H → Prop) : Int32 → x_X → x_H → Prop := fun r X1 h1 => ∃ (F1 : Nat → Int32) (M1 : Nat → Nat → Int32) (o1 : Nat → Int64), X1 = fixC ad F1 M1 ++ (XO ao o1 ++ XF) ∧ post r F1 M1 o1 h1
theorem sP_o (ad : Nat → Nat) (ao : Nat) (F : Nat → Int32) (M : Nat → Nat → Int32) (o f : Nat → Int64) (XF : x_X) : (fixC ad F M ++ (XO ao o ++ XF)).set 6 (ao, .inl (.long, (1, .inr (.inl f)))) = fixC ad F M ++ (XO ao f ++ XF) := rfl
/-- PageServerLaw.page(LPageServer;IIII[J)I -/
abbrev rmX0_page (mc0 ms0 : Nat) : Room := { frames := 8, cells := mc0, slots := ms0, locals := 200 }
section
variable {p : Program} {l : Launch} {e : Env} {s : State} {m : MethodId} {args : Array Value} {below : List Frame} {meth : Method} {c : Code} {D : va_G} {N0 : Nat} {gp : Nat → Nat} {ad : Nat → Nat} {ao : Nat} {XF : x_X} {mc0 ms0 : Nat}
end
def wX0_page (post : Int32 → (Nat → Int32) → (Nat → Nat → Int32) → (Nat → Int64) → x_H → Prop) (gp : Nat → Nat) (ad : Nat → Nat) (p1 : Int32) (p2 : Int32) (p3 : Int32) (p4 : Int32) (F : (Nat → Int32)) (M : (Nat → Nat → Int32)) (o : (Nat → Int64)) (h : x_H) (mc : Nat) (ms : Nat) : Prop :=
  ∃ ca10 cb11 mc12 ms13 : Nat, ca10 + mc12 ≤ mc ∧ cb11 + ms13 ≤ ms ∧ wX1_page (fun r9 F14 M14 h15 => post 0 F14 M14 (vp_updL o ((0 : Int32).toNatClampNeg) r9.toInt64) h15) (fun E16 F16 M16 h16 => (E16 = "java/lang/IllegalArgumentException" ∨ E16 = "java/lang/IllegalStateException") ∧ ∀ q16 : Nat, (E16 = "java/lang/IllegalArgumentException" → post 1 F16 M16 o h16) ∧ (E16 = "java/lang/IllegalStateException" → post 2 F16 M16 o h16)) gp ad p1 p2 p3 p4 F M h ca10 cb11
theorem kX0_page (l : Launch) (D : va_G) (N0 : Nat) (gp : Nat → Nat) (ad : Nat → Nat) (ao : Nat) (XF : x_X) (p1 : Int32) (p2 : Int32) (p3 : Int32) (p4 : Int32) (F : (Nat → Int32)) (M : (Nat → Nat → Int32)) (o : (Nat → Int64)) (h : x_H) (mc : Nat) (ms : Nat) (post : Int32 → (Nat → Int32) → (Nat → Nat → Int32) → (Nat → Int64) → x_H → Prop) (hlt : l.stackTraces = false) (hw : wX0_page post gp ad p1 p2 p3 p4 F M o h mc ms) : Met l yX0_page (wsW_ yX0_page cX0_page 7 (some .int) [(0, 14, 17, 13), (0, 14, 21, 15)]) (rmX0_page mc ms) (x_Pc D N0 gp (fixC ad F M ++ (XO ao o ++ XF)) h [.ref (ad 1000), .int p1, .int p2, .int p3, .int p4, .ref ao]) (x_Qc D N0 (x_Vi (qOi ad ao XF post))) mc ms (x_A N0) := by
  refine x_startW (lv := [(0, .ref (ad 1000)), (1, .int p1), (2, .int p2), (3, .int p3), (4, .int p4), (5, .ref ao)]) (by decide) rfl (Nat.le_of_ble_eq_true rfl) rfl ?_
  intro p e s m below meth c C hxt hR ls hl
  have hS : va_S (x_A N0) s.heap s.heap [] := va_S.rf
  obtain ⟨⟨hx, hb, hml, hown, hts⟩, hr, hlocks, hG, hN⟩ := id C
  unfold wX0_page at hw
  have hk : 0 + mc ≤ mc := Nat.le_of_eq (Nat.zero_add _)
  have hn : 0 + ms ≤ ms := Nat.le_of_eq (Nat.zero_add _)
  refine lv_aload hx hb dX0_page_0 (lv_at hl 5 rfl) ?_
  refine lv_iconst (v := 0) hx hb dX0_page_2 (by decide) ?_
  refine lv_aload_n hx hb dX0_page_3 rfl (lv_at hl 0 rfl) ?_
  refine lv_iload_n hx hb dX0_page_4 rfl (lv_at hl 1 rfl) ?_
  refine lv_iload_n hx hb dX0_page_5 rfl (lv_at hl 2 rfl) ?_
  refine lv_iload_n hx hb dX0_page_6 rfl (lv_at hl 3 rfl) ?_
  refine lv_iload hx hb dX0_page_7 (lv_at hl 4 rfl) ?_
  obtain ⟨ca10, cb11, mc12, ms13, hca10, hcb11, hw⟩ := hw
  refine x_callXi (x_runVX (n := 4) (As := [.int p1, .int p2, .int p3, .int p4]) C hR hS (kX1_page l D N0 gp ad _ p1 p2 p3 p4 F M h ca10 cb11 _ _ hlt hw) (lw_V q1084 q1085 q1086 q85 q1087) rfl rfl (by decide +kernel) ⟨Nat.le_of_ble_eq_true rfl, Nat.le_of_ble_eq_true rfl⟩ (x_recv C (hR.rdX 0 rfl) rfl) rfl hl.1 rfl (Nat.le_of_ble_eq_true rfl) dX0_page_9 ⟨x_bud hk hca10, x_bud hn hcb11⟩) hS ?_ (fun r9 X1 h15 H locs hq hR hS => ?_)
  · intro E16 ce q16 X1 h16 H locs hq hR hS hce hcv hcl
    clear hw
    obtain ⟨F16, M16, e1, hE, hw⟩ := hq
    rw [e1] at hR
    replace hw := hw q16
    have hk := x_budN hk hca10
    have hn := x_budN hn hcb11
    rcases hE with rfl | rfl
    · refine x_catch1 C _ _ hxt rfl (by decide) q1082 q611 hce hcv hcl ?_
      replace hw := hw.1 rfl
      refine lv_astore (lv' := [(6, .ref q16), (0, .ref (ad 1000)), (1, .int p1), (2, .int p2), (3, .int p3), (4, .int p4), (5, .ref ao)]) hx hb dX0_page_17 hl (by decide) rfl (fun ls hl => ?_)
      refine lv_iconst (v := 1) hx hb dX0_page_19 (by decide) ?_
      exact x_endi C hR hS ⟨_, rfl, ⟨_, _, _, rfl, hw⟩⟩ (x_le hk) (x_le hn) dX0_page_20
    · refine x_catch2 C _ _ _ hxt (by decide) q1082 hG.2.2.2.2.2 rfl (by decide) q1083 q512 hce hcv hcl ?_
      replace hw := hw.2 rfl
      refine lv_astore (lv' := [(6, .ref q16), (0, .ref (ad 1000)), (1, .int p1), (2, .int p2), (3, .int p3), (4, .int p4), (5, .ref ao)]) hx hb dX0_page_21 hl (by decide) rfl (fun ls hl => ?_)
      refine lv_iconst (v := 2) hx hb dX0_page_23 (by decide) ?_
      exact x_endi C hR hS ⟨_, rfl, ⟨_, _, _, rfl, hw⟩⟩ (x_le hk) (x_le hn) dX0_page_24
  clear hw
  obtain ⟨F14, M14, e1, hw⟩ := hq
  rw [e1] at hR
  have hk := x_budN hk hca10
  have hn := x_budN hn hcb11
  refine lv_i2l hx hb dX0_page_12 rfl ?_
  refine x_lastX (n := 1) (f := o) C hR hS 6 rfl (by unfold vp_in; decide) (sP_o ..) dX0_page_13 (fun H locs hR hS => ?_)
  refine lv_goto (tgt := 25) hx hb dX0_page_14 (by decide) ?_
  refine lv_iconst (v := 0) hx hb dX0_page_25 (by decide) ?_
  exact x_endi C hR hS ⟨_, rfl, ⟨_, _, _, rfl, hw⟩⟩ (x_le hk) (x_le hn) dX0_page_26
/-- PageServerLaw.out(LPageServer;I[J)I -/
abbrev rmX0_out (mc0 ms0 : Nat) : Room := { frames := 8, cells := mc0, slots := ms0, locals := 141 }
section
variable {p : Program} {l : Launch} {e : Env} {s : State} {m : MethodId} {args : Array Value} {below : List Frame} {meth : Method} {c : Code} {D : va_G} {N0 : Nat} {gp : Nat → Nat} {ad : Nat → Nat} {ao : Nat} {XF : x_X} {mc0 ms0 : Nat}
end
def wX0_out (post : Int32 → (Nat → Int32) → (Nat → Nat → Int32) → (Nat → Int64) → x_H → Prop) (ad : Nat → Nat) (p1 : Int32) (F : (Nat → Int32)) (M : (Nat → Nat → Int32)) (o : (Nat → Int64)) (h : x_H) (mc : Nat) (ms : Nat) : Prop :=
  ∃ ca10 cb11 mc12 ms13 : Nat, ca10 + mc12 ≤ mc ∧ cb11 + ms13 ≤ ms ∧ wX1_out (fun r9 F14 M14 h15 => post 0 F14 M14 (vp_updL o ((0 : Int32).toNatClampNeg) r9.toInt64) h15) (fun E16 F16 M16 h16 => (E16 = "java/util/NoSuchElementException") ∧ ∀ q16 : Nat, (E16 = "java/util/NoSuchElementException" → post 1 F16 M16 o h16)) ad p1 F M h ca10 cb11
theorem kX0_out (l : Launch) (D : va_G) (N0 : Nat) (gp : Nat → Nat) (ad : Nat → Nat) (ao : Nat) (XF : x_X) (p1 : Int32) (F : (Nat → Int32)) (M : (Nat → Nat → Int32)) (o : (Nat → Int64)) (h : x_H) (mc : Nat) (ms : Nat) (post : Int32 → (Nat → Int32) → (Nat → Nat → Int32) → (Nat → Int64) → x_H → Prop) (hlt : l.stackTraces = false) (hw : wX0_out post ad p1 F M o h mc ms) : Met l yX0_out (wsW_ yX0_out cX0_out 4 (some .int) [(0, 9, 12, 21)]) (rmX0_out mc ms) (x_Pc D N0 gp (fixC ad F M ++ (XO ao o ++ XF)) h [.ref (ad 1000), .int p1, .ref ao]) (x_Qc D N0 (x_Vi (qOi ad ao XF post))) mc ms (x_A N0) := by
  refine x_startW (lv := [(0, .ref (ad 1000)), (1, .int p1), (2, .ref ao)]) (by decide) rfl (Nat.le_of_ble_eq_true rfl) rfl ?_
  intro p e s m below meth c C hxt hR ls hl
  have hS : va_S (x_A N0) s.heap s.heap [] := va_S.rf
  obtain ⟨⟨hx, hb, hml, hown, hts⟩, hr, hlocks, hG, hN⟩ := id C
  unfold wX0_out at hw
  have hk : 0 + mc ≤ mc := Nat.le_of_eq (Nat.zero_add _)
  have hn : 0 + ms ≤ ms := Nat.le_of_eq (Nat.zero_add _)
  refine lv_aload_n hx hb dX0_out_0 rfl (lv_at hl 2 rfl) ?_
  refine lv_iconst (v := 0) hx hb dX0_out_1 (by decide) ?_
  refine lv_aload_n hx hb dX0_out_2 rfl (lv_at hl 0 rfl) ?_
  refine lv_iload_n hx hb dX0_out_3 rfl (lv_at hl 1 rfl) ?_
  obtain ⟨ca10, cb11, mc12, ms13, hca10, hcb11, hw⟩ := hw
  refine x_callXi (x_runVX (n := 1) (As := [.int p1]) C hR hS (kX1_out l D N0 gp ad _ p1 F M h ca10 cb11 _ _ hlt hw) (lw_V q1120 q1121 q1122 q85 q1123) rfl rfl (by decide +kernel) ⟨Nat.le_of_ble_eq_true rfl, Nat.le_of_ble_eq_true rfl⟩ (x_recv C (hR.rdX 0 rfl) rfl) rfl hl.1 rfl (Nat.le_of_ble_eq_true rfl) dX0_out_4 ⟨x_bud hk hca10, x_bud hn hcb11⟩) hS ?_ (fun r9 X1 h15 H locs hq hR hS => ?_)
  · intro E16 ce q16 X1 h16 H locs hq hR hS hce hcv hcl
    clear hw
    obtain ⟨F16, M16, e1, hE, hw⟩ := hq
    rw [e1] at hR
    replace hw := hw q16
    have hk := x_budN hk hca10
    have hn := x_budN hn hcb11
    rcases hE with rfl
    · refine x_catch1 C _ _ hxt rfl (by decide) q1119 q1129 hce hcv hcl ?_
      replace hw := hw rfl
      refine lv_astore_n (lv' := [(3, .ref q16), (0, .ref (ad 1000)), (1, .int p1), (2, .ref ao)]) hx hb dX0_out_12 rfl hl (by decide) rfl (fun ls hl => ?_)
      refine lv_iconst (v := 1) hx hb dX0_out_13 (by decide) ?_
      exact x_endi C hR hS ⟨_, rfl, ⟨_, _, _, rfl, hw⟩⟩ (x_le hk) (x_le hn) dX0_out_14
  clear hw
  obtain ⟨F14, M14, e1, hw⟩ := hq
  rw [e1] at hR
  have hk := x_budN hk hca10
  have hn := x_budN hn hcb11
  refine lv_i2l hx hb dX0_out_7 rfl ?_
  refine x_lastX (n := 1) (f := o) C hR hS 6 rfl (by unfold vp_in; decide) (sP_o ..) dX0_out_8 (fun H locs hR hS => ?_)
  refine lv_goto (tgt := 15) hx hb dX0_out_9 (by decide) ?_
  refine lv_iconst (v := 0) hx hb dX0_out_15 (by decide) ?_
  exact x_endi C hR hS ⟨_, rfl, ⟨_, _, _, rfl, hw⟩⟩ (x_le hk) (x_le hn) dX0_out_16
/-- PageServerLaw.stream(LPageServer;II[J)I -/
abbrev rmX0_stream (mc0 ms0 : Nat) : Room := { frames := 8, cells := mc0, slots := ms0, locals := 143 }
section
variable {p : Program} {l : Launch} {e : Env} {s : State} {m : MethodId} {args : Array Value} {below : List Frame} {meth : Method} {c : Code} {D : va_G} {N0 : Nat} {gp : Nat → Nat} {ad : Nat → Nat} {ao : Nat} {XF : x_X} {mc0 ms0 : Nat}
end
def wX0_stream (post : Int32 → (Nat → Int32) → (Nat → Nat → Int32) → (Nat → Int64) → x_H → Prop) (ad : Nat → Nat) (p1 : Int32) (p2 : Int32) (F : (Nat → Int32)) (M : (Nat → Nat → Int32)) (o : (Nat → Int64)) (h : x_H) (mc : Nat) (ms : Nat) : Prop :=
  ∃ ca10 cb11 mc12 ms13 : Nat, ca10 + mc12 ≤ mc ∧ cb11 + ms13 ≤ ms ∧ wX1_stream (fun r9 F14 M14 h15 => post 0 F14 M14 (vp_updL o ((0 : Int32).toNatClampNeg) r9.toInt64) h15) (fun E16 F16 M16 h16 => (E16 = "java/util/NoSuchElementException") ∧ ∀ q16 : Nat, (E16 = "java/util/NoSuchElementException" → post 1 F16 M16 o h16)) ad p1 p2 F M h ca10 cb11
theorem kX0_stream (l : Launch) (D : va_G) (N0 : Nat) (gp : Nat → Nat) (ad : Nat → Nat) (ao : Nat) (XF : x_X) (p1 : Int32) (p2 : Int32) (F : (Nat → Int32)) (M : (Nat → Nat → Int32)) (o : (Nat → Int64)) (h : x_H) (mc : Nat) (ms : Nat) (post : Int32 → (Nat → Int32) → (Nat → Nat → Int32) → (Nat → Int64) → x_H → Prop) (hlt : l.stackTraces = false) (hw : wX0_stream post ad p1 p2 F M o h mc ms) : Met l yX0_stream (wsW_ yX0_stream cX0_stream 5 (some .int) [(0, 10, 13, 21)]) (rmX0_stream mc ms) (x_Pc D N0 gp (fixC ad F M ++ (XO ao o ++ XF)) h [.ref (ad 1000), .int p1, .int p2, .ref ao]) (x_Qc D N0 (x_Vi (qOi ad ao XF post))) mc ms (x_A N0) := by
  refine x_startW (lv := [(0, .ref (ad 1000)), (1, .int p1), (2, .int p2), (3, .ref ao)]) (by decide) rfl (Nat.le_of_ble_eq_true rfl) rfl ?_
  intro p e s m below meth c C hxt hR ls hl
  have hS : va_S (x_A N0) s.heap s.heap [] := va_S.rf
  obtain ⟨⟨hx, hb, hml, hown, hts⟩, hr, hlocks, hG, hN⟩ := id C
  unfold wX0_stream at hw
  have hk : 0 + mc ≤ mc := Nat.le_of_eq (Nat.zero_add _)
  have hn : 0 + ms ≤ ms := Nat.le_of_eq (Nat.zero_add _)
  refine lv_aload_n hx hb dX0_stream_0 rfl (lv_at hl 3 rfl) ?_
  refine lv_iconst (v := 0) hx hb dX0_stream_1 (by decide) ?_
  refine lv_aload_n hx hb dX0_stream_2 rfl (lv_at hl 0 rfl) ?_
  refine lv_iload_n hx hb dX0_stream_3 rfl (lv_at hl 1 rfl) ?_
  refine lv_iload_n hx hb dX0_stream_4 rfl (lv_at hl 2 rfl) ?_
  obtain ⟨ca10, cb11, mc12, ms13, hca10, hcb11, hw⟩ := hw
  refine x_callXi (x_runVX (n := 2) (As := [.int p1, .int p2]) C hR hS (kX1_stream l D N0 gp ad _ p1 p2 F M h ca10 cb11 _ _ hlt hw) (lw_V q1145 q1146 q1147 q85 q1148) rfl rfl (by decide +kernel) ⟨Nat.le_of_ble_eq_true rfl, Nat.le_of_ble_eq_true rfl⟩ (x_recv C (hR.rdX 0 rfl) rfl) rfl hl.1 rfl (Nat.le_of_ble_eq_true rfl) dX0_stream_5 ⟨x_bud hk hca10, x_bud hn hcb11⟩) hS ?_ (fun r9 X1 h15 H locs hq hR hS => ?_)
  · intro E16 ce q16 X1 h16 H locs hq hR hS hce hcv hcl
    clear hw
    obtain ⟨F16, M16, e1, hE, hw⟩ := hq
    rw [e1] at hR
    replace hw := hw q16
    have hk := x_budN hk hca10
    have hn := x_budN hn hcb11
    rcases hE with rfl
    · refine x_catch1 C _ _ hxt rfl (by decide) q1119 q1129 hce hcv hcl ?_
      replace hw := hw rfl
      refine lv_astore (lv' := [(4, .ref q16), (0, .ref (ad 1000)), (1, .int p1), (2, .int p2), (3, .ref ao)]) hx hb dX0_stream_13 hl (by decide) rfl (fun ls hl => ?_)
      refine lv_iconst (v := 1) hx hb dX0_stream_15 (by decide) ?_
      exact x_endi C hR hS ⟨_, rfl, ⟨_, _, _, rfl, hw⟩⟩ (x_le hk) (x_le hn) dX0_stream_16
  clear hw
  obtain ⟨F14, M14, e1, hw⟩ := hq
  rw [e1] at hR
  have hk := x_budN hk hca10
  have hn := x_budN hn hcb11
  refine lv_i2l hx hb dX0_stream_8 rfl ?_
  refine x_lastX (n := 1) (f := o) C hR hS 6 rfl (by unfold vp_in; decide) (sP_o ..) dX0_stream_9 (fun H locs hR hS => ?_)
  refine lv_goto (tgt := 17) hx hb dX0_stream_10 (by decide) ?_
  refine lv_iconst (v := 0) hx hb dX0_stream_17 (by decide) ?_
  exact x_endi C hR hS ⟨_, rfl, ⟨_, _, _, rfl, hw⟩⟩ (x_le hk) (x_le hn) dX0_stream_18
/-- PageServerLaw.entry(LPageServer;III[J)I -/
abbrev rmX0_entry (mc0 ms0 : Nat) : Room := { frames := 8, cells := mc0, slots := ms0, locals := 145 }
section
variable {p : Program} {l : Launch} {e : Env} {s : State} {m : MethodId} {args : Array Value} {below : List Frame} {meth : Method} {c : Code} {D : va_G} {N0 : Nat} {gp : Nat → Nat} {ad : Nat → Nat} {ao : Nat} {XF : x_X} {mc0 ms0 : Nat}
end
def wX0_entry (post : Int32 → (Nat → Int32) → (Nat → Nat → Int32) → (Nat → Int64) → x_H → Prop) (gp : Nat → Nat) (ad : Nat → Nat) (p1 : Int32) (p2 : Int32) (p3 : Int32) (F : (Nat → Int32)) (M : (Nat → Nat → Int32)) (o : (Nat → Int64)) (h : x_H) (mc : Nat) (ms : Nat) : Prop :=
  ∃ ca10 cb11 mc12 ms13 : Nat, ca10 + mc12 ≤ mc ∧ cb11 + ms13 ≤ ms ∧ wX1_entry (fun r9 F14 M14 h15 => post 0 F14 M14 (vp_updL o ((0 : Int32).toNatClampNeg) r9.toInt64) h15) (fun E16 F16 M16 h16 => (E16 = "java/util/NoSuchElementException") ∧ ∀ q16 : Nat, (E16 = "java/util/NoSuchElementException" → post 1 F16 M16 o h16)) gp ad p1 p2 p3 F M h ca10 cb11
theorem kX0_entry (l : Launch) (D : va_G) (N0 : Nat) (gp : Nat → Nat) (ad : Nat → Nat) (ao : Nat) (XF : x_X) (p1 : Int32) (p2 : Int32) (p3 : Int32) (F : (Nat → Int32)) (M : (Nat → Nat → Int32)) (o : (Nat → Int64)) (h : x_H) (mc : Nat) (ms : Nat) (post : Int32 → (Nat → Int32) → (Nat → Nat → Int32) → (Nat → Int64) → x_H → Prop) (hlt : l.stackTraces = false) (hw : wX0_entry post gp ad p1 p2 p3 F M o h mc ms) : Met l yX0_entry (wsW_ yX0_entry cX0_entry 6 (some .int) [(0, 12, 15, 21)]) (rmX0_entry mc ms) (x_Pc D N0 gp (fixC ad F M ++ (XO ao o ++ XF)) h [.ref (ad 1000), .int p1, .int p2, .int p3, .ref ao]) (x_Qc D N0 (x_Vi (qOi ad ao XF post))) mc ms (x_A N0) := by
  refine x_startW (lv := [(0, .ref (ad 1000)), (1, .int p1), (2, .int p2), (3, .int p3), (4, .ref ao)]) (by decide) rfl (Nat.le_of_ble_eq_true rfl) rfl ?_
  intro p e s m below meth c C hxt hR ls hl
  have hS : va_S (x_A N0) s.heap s.heap [] := va_S.rf
  obtain ⟨⟨hx, hb, hml, hown, hts⟩, hr, hlocks, hG, hN⟩ := id C
  unfold wX0_entry at hw
  have hk : 0 + mc ≤ mc := Nat.le_of_eq (Nat.zero_add _)
  have hn : 0 + ms ≤ ms := Nat.le_of_eq (Nat.zero_add _)
  refine lv_aload hx hb dX0_entry_0 (lv_at hl 4 rfl) ?_
  refine lv_iconst (v := 0) hx hb dX0_entry_2 (by decide) ?_
  refine lv_aload_n hx hb dX0_entry_3 rfl (lv_at hl 0 rfl) ?_
  refine lv_iload_n hx hb dX0_entry_4 rfl (lv_at hl 1 rfl) ?_
  refine lv_iload_n hx hb dX0_entry_5 rfl (lv_at hl 2 rfl) ?_
  refine lv_iload_n hx hb dX0_entry_6 rfl (lv_at hl 3 rfl) ?_
  obtain ⟨ca10, cb11, mc12, ms13, hca10, hcb11, hw⟩ := hw
  refine x_callXi (x_runVX (n := 3) (As := [.int p1, .int p2, .int p3]) C hR hS (kX1_entry l D N0 gp ad _ p1 p2 p3 F M h ca10 cb11 _ _ hlt hw) (lw_V q1152 q1153 q1154 q85 q1155) rfl rfl (by decide +kernel) ⟨Nat.le_of_ble_eq_true rfl, Nat.le_of_ble_eq_true rfl⟩ (x_recv C (hR.rdX 0 rfl) rfl) rfl hl.1 rfl (Nat.le_of_ble_eq_true rfl) dX0_entry_7 ⟨x_bud hk hca10, x_bud hn hcb11⟩) hS ?_ (fun r9 X1 h15 H locs hq hR hS => ?_)
  · intro E16 ce q16 X1 h16 H locs hq hR hS hce hcv hcl
    clear hw
    obtain ⟨F16, M16, e1, hE, hw⟩ := hq
    rw [e1] at hR
    replace hw := hw q16
    have hk := x_budN hk hca10
    have hn := x_budN hn hcb11
    rcases hE with rfl
    · refine x_catch1 C _ _ hxt rfl (by decide) q1119 q1129 hce hcv hcl ?_
      replace hw := hw rfl
      refine lv_astore (lv' := [(5, .ref q16), (0, .ref (ad 1000)), (1, .int p1), (2, .int p2), (3, .int p3), (4, .ref ao)]) hx hb dX0_entry_15 hl (by decide) rfl (fun ls hl => ?_)
      refine lv_iconst (v := 1) hx hb dX0_entry_17 (by decide) ?_
      exact x_endi C hR hS ⟨_, rfl, ⟨_, _, _, rfl, hw⟩⟩ (x_le hk) (x_le hn) dX0_entry_18
  clear hw
  obtain ⟨F14, M14, e1, hw⟩ := hq
  rw [e1] at hR
  have hk := x_budN hk hca10
  have hn := x_budN hn hcb11
  refine lv_i2l hx hb dX0_entry_10 rfl ?_
  refine x_lastX (n := 1) (f := o) C hR hS 6 rfl (by unfold vp_in; decide) (sP_o ..) dX0_entry_11 (fun H locs hR hS => ?_)
  refine lv_goto (tgt := 19) hx hb dX0_entry_12 (by decide) ?_
  refine lv_iconst (v := 0) hx hb dX0_entry_19 (by decide) ?_
  exact x_endi C hR hS ⟨_, rfl, ⟨_, _, _, rfl, hw⟩⟩ (x_le hk) (x_le hn) dX0_entry_20
