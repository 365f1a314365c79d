/-! the walks of PageServer and its parts, printed by gen/walk.py -/
set_option maxHeartbeats 4000000
set_option maxRecDepth 100000
/-- PageServer.pump()V -/
abbrev rmX1_pump (mc0 ms0 : Nat) : Room := { frames := 8, cells := mc0, slots := ms0, locals := 194 }
section
variable {p : Program} {l : Launch} {e : Env} {s : State} {m : MethodId} {args : Array Value} {below : List Frame} {meth : Method} {c : Code} {D : va_G} {N0 : Nat} {gp : Nat → Nat} {ad : Nat → Nat} {XF : x_X} {mc0 ms0 : Nat}
def wX1_pump_b138 (post : (Nat → Int32) → (Nat → Nat → Int32) → x_H → Prop) (K5 : (Nat → Int32) → (Nat → Nat → Int32) → x_H → Nat → Nat → Option Nat → Prop) (gp : Nat → Nat) (ad : Nat → Nat)  (F : (Nat → Int32)) (M : (Nat → Nat → Int32)) (h : x_H) (mc : Nat) (ms : Nat) : Prop :=
  wX1_turn (fun r102 => K5 F M h mc ms r102) ad F M h
theorem kX1_pump_b138 {post : (Nat → Int32) → (Nat → Nat → Int32) → x_H → Prop} {K5 : (Nat → Int32) → (Nat → Nat → Int32) → x_H → Nat → Nat → Option Nat → Prop} (C : x_C p s m args meth c cX1_pump 4 none RX1 D N0 gp) (hK5 : ∀ (F : (Nat → Int32)) (M : (Nat → Nat → Int32)) (h : x_H) (mc : Nat) (ms : Nat) (x1 : Option Nat) (k n : Nat) (H : Heap) (locs : List Loc) (ls : Array Slot), x_R D s N0 (fixC ad F M ++ XF) h H → va_S (x_A N0) s.heap H locs → k + mc ≤ mc0 → n + ms ≤ ms0 → lv_has ls 4 [(0, .ref (ad 1000)), (1, va_rf x1)] → K5 F M h mc ms x1 → W p l e (rmX1_pump mc0 ms0) s m args below meth c H locs k n (MQ below (x_Qc D N0 (x_Vv (qCv ad XF post))) args s mc0 ms0 (x_A N0)) (F0 m 5 ls [])) {F : (Nat → Int32)} {M : (Nat → Nat → Int32)} {h : x_H} {mc : Nat} {ms : Nat} {k n : Nat} {H : Heap} {locs : List Loc} {ls : Array Slot} (hR : x_R D s N0 (fixC ad F M ++ XF) h H) (hS : va_S (x_A N0) s.heap H locs) (hk : k + mc ≤ mc0) (hn : n + ms ≤ ms0) (hl : lv_has ls 4 [(0, .ref (ad 1000))]) (hw : wX1_pump_b138 post K5 gp ad F M h mc ms) : W p l e (rmX1_pump mc0 ms0) s m args below meth c H locs k n (MQ below (x_Qc D N0 (x_Vv (qCv ad XF post))) args s mc0 ms0 (x_A N0)) (F0 m 138 ls []) := by
  obtain ⟨⟨hx, hb, hml, hown, hts⟩, hr, hlocks, hG, hN⟩ := id C
  unfold wX1_pump_b138 at hw
  refine lv_aload_n hx hb dX1_pump_138 rfl (lv_at hl 0 rfl) ?_
  refine x_calla0 (x_runV (n := 0) (As := []) C hR hS (kX1_turn l D N0 gp ad XF F M h _ hw) (lw_V q1057 q1059 qs37 q85 q1060) rfl rfl (by decide +kernel) ⟨Nat.le_of_ble_eq_true rfl, Nat.le_of_ble_eq_true rfl⟩ (x_recv C (hR.rdX 0 rfl) rfl) rfl hl.1 rfl (Nat.le_of_ble_eq_true rfl) dX1_pump_139 ⟨x_bud0 hk, x_bud0 hn⟩) hS (fun r102 X1 h1 H locs hq hR hS => ?_)
  clear hw
  obtain ⟨e1, e2, hw⟩ := hq
  rw [e1, e2] at hR
  refine x_astore_nO (lv' := [(1, va_rf r102), (0, .ref (ad 1000))]) hx hb dX1_pump_142 rfl hl (by decide) rfl (fun ls hl => ?_)
  refine lv_goto (tgt := 5) hx hb dX1_pump_143 (by decide) ?_
  exact hK5 _ _ _ _ _ _ _ _ _ _ _ hR hS hk hn (lv_sub hl [1, 0] rfl) hw
def wX1_pump_b123 (post : (Nat → Int32) → (Nat → Nat → Int32) → x_H → Prop) (K5 : (Nat → Int32) → (Nat → Nat → Int32) → x_H → Nat → Nat → Option Nat → Prop) (gp : Nat → Nat) (ad : Nat → Nat)  (F : (Nat → Int32)) (M : (Nat → Nat → Int32)) (h : x_H) (mc : Nat) (ms : Nat) (x1 : Nat) : Prop :=
  ∃ y92 : Int32, x_f h x1 4 4 (.int y92) ∧ (y92 = 0 → ∃ y95 : Int32, x_f h x1 4 0 (.int y95) ∧ ∃ ca96 cb97 mc98 ms99 : Nat, ca96 + mc98 ≤ mc ∧ cb97 + ms99 ≤ ms ∧ wX1_over (fun F100 M100 h101 => wX1_pump_b138 post K5 gp ad F100 M100 h101 mc98 ms99) gp ad y95 F M h ca96 cb97) ∧ (¬ y92 = 0 → wX1_pump_b138 post K5 gp ad F M h mc ms)
theorem kX1_pump_b123 {post : (Nat → Int32) → (Nat → Nat → Int32) → x_H → Prop} {K5 : (Nat → Int32) → (Nat → Nat → Int32) → x_H → Nat → Nat → Option Nat → Prop} (C : x_C p s m args meth c cX1_pump 4 none RX1 D N0 gp) (hK5 : ∀ (F : (Nat → Int32)) (M : (Nat → Nat → Int32)) (h : x_H) (mc : Nat) (ms : Nat) (x1 : Option Nat) (k n : Nat) (H : Heap) (locs : List Loc) (ls : Array Slot), x_R D s N0 (fixC ad F M ++ XF) h H → va_S (x_A N0) s.heap H locs → k + mc ≤ mc0 → n + ms ≤ ms0 → lv_has ls 4 [(0, .ref (ad 1000)), (1, va_rf x1)] → K5 F M h mc ms x1 → W p l e (rmX1_pump mc0 ms0) s m args below meth c H locs k n (MQ below (x_Qc D N0 (x_Vv (qCv ad XF post))) args s mc0 ms0 (x_A N0)) (F0 m 5 ls [])) {F : (Nat → Int32)} {M : (Nat → Nat → Int32)} {h : x_H} {mc : Nat} {ms : Nat} {x1 : Nat} {k n : Nat} {H : Heap} {locs : List Loc} {ls : Array Slot} (hR : x_R D s N0 (fixC ad F M ++ XF) h H) (hS : va_S (x_A N0) s.heap H locs) (hk : k + mc ≤ mc0) (hn : n + ms ≤ ms0) (hl : lv_has ls 4 [(0, .ref (ad 1000)), (1, .ref x1)]) (hw : wX1_pump_b123 post K5 gp ad F M h mc ms x1) : W p l e (rmX1_pump mc0 ms0) s m args below meth c H locs k n (MQ below (x_Qc D N0 (x_Vv (qCv ad XF post))) args s mc0 ms0 (x_A N0)) (F0 m 123 ls []) := by
  obtain ⟨⟨hx, hb, hml, hown, hts⟩, hr, hlocks, hG, hN⟩ := id C
  unfold wX1_pump_b123 at hw
  refine lv_aload_n hx hb dX1_pump_123 rfl (lv_at hl 1 rfl) ?_
  obtain ⟨y92, hf91, hw⟩ := hw
  refine x_getHN (ci := 4) (Cn := RX5) (T := TX5) (N := 9) (k := 4) C hR hf91 rfl in_X5 (by decide) (x_nest C q328 rfl) (fun _ h9 => h9) dX1_pump_124 ?_
  refine lv_if_ne (tgt := 138) hx hb dX1_pump_127 (by decide) (fun c93 => ?_) (fun c93 => ?_)
  · replace hw := hw.2 c93
    exact kX1_pump_b138 C hK5 hR hS hk hn (lv_sub hl [0] rfl) hw
  · replace hw := hw.1 c93
    refine lv_aload_n hx hb dX1_pump_130 rfl (lv_at hl 0 rfl) ?_
    refine lv_aload_n hx hb dX1_pump_131 rfl (lv_at hl 1 rfl) ?_
    obtain ⟨y95, hf94, hw⟩ := hw
    refine x_getHN (ci := 4) (Cn := RX5) (T := TX5) (N := 9) (k := 0) C hR hf94 rfl in_X5 (by decide) (x_nest C q320 rfl) (fun _ h9 => h9) dX1_pump_132 ?_
    obtain ⟨ca96, cb97, mc98, ms99, hca96, hcb97, hw⟩ := hw
    refine x_callv (x_runV (n := 1) (As := [.int y95]) C hR hS (kX1_over l D N0 gp ad XF y95 F M h ca96 cb97 _ hw) (lw_V q660 q662 qs23 q85 q663) rfl rfl (by decide +kernel) ⟨Nat.le_of_ble_eq_true rfl, Nat.le_of_ble_eq_true rfl⟩ (x_recv C (hR.rdX 0 rfl) rfl) rfl hl.1 rfl (Nat.le_of_ble_eq_true rfl) dX1_pump_135 ⟨x_bud hk hca96, x_bud hn hcb97⟩) hS (fun X1 h101 H locs hq hR hS => ?_)
    clear hw
    obtain ⟨F100, M100, e1, hw⟩ := hq
    rw [e1] at hR
    have hk := x_budN hk hca96
    have hn := x_budN hn hcb97
    exact kX1_pump_b138 C hK5 hR hS hk hn (lv_sub hl [0] rfl) hw
def tX1_pump_b104 (post : (Nat → Int32) → (Nat → Nat → Int32) → x_H → Prop) (K5 : (Nat → Int32) → (Nat → Nat → Int32) → x_H → Nat → Nat → Option Nat → Prop) (K104 : (Nat → Int32) → (Nat → Nat → Int32) → x_H → Nat → Nat → Nat → Int32 → Int32 → Prop) (gp : Nat → Nat) (ad : Nat → Nat)  (F : (Nat → Int32)) (M : (Nat → Nat → Int32)) (h : x_H) (mc : Nat) (ms : Nat) (x1 : Nat) (x2 : Int32) (x3 : Int32) : Prop :=
  (x2 ≤ x3 → wX1_pump_b123 post K5 gp ad F M h mc ms x1) ∧ (¬ x2 ≤ x3 → ∃ y88 : Int32, x_f h x1 4 5 (.int y88) ∧ wX1_say (fun F89 M89 h90 => K104 F89 M89 h90 mc ms x1 x2 (x3 + 1)) ad y88 F M h)
def wX1_pump_b104 (post : (Nat → Int32) → (Nat → Nat → Int32) → x_H → Prop) (K5 : (Nat → Int32) → (Nat → Nat → Int32) → x_H → Nat → Nat → Option Nat → Prop) (gp : Nat → Nat) (ad : Nat → Nat)  : Nat → (Nat → Int32) → (Nat → Nat → Int32) → x_H → Nat → Nat → Nat → Int32 → Int32 → Prop
  | 0 => fun _ _ _ _ _ _ _ _ => False
  | n + 1 => fun F M h mc ms x1 x2 x3 => tX1_pump_b104 post K5 (wX1_pump_b104 post K5 gp ad n) gp ad F M h mc ms x1 x2 x3
theorem kX1_pump_b104 {post : (Nat → Int32) → (Nat → Nat → Int32) → x_H → Prop} {K5 : (Nat → Int32) → (Nat → Nat → Int32) → x_H → Nat → Nat → Option Nat → Prop} (C : x_C p s m args meth c cX1_pump 4 none RX1 D N0 gp) (hK5 : ∀ (F : (Nat → Int32)) (M : (Nat → Nat → Int32)) (h : x_H) (mc : Nat) (ms : Nat) (x1 : Option Nat) (k n : Nat) (H : Heap) (locs : List Loc) (ls : Array Slot), x_R D s N0 (fixC ad F M ++ XF) h H → va_S (x_A N0) s.heap H locs → k + mc ≤ mc0 → n + ms ≤ ms0 → lv_has ls 4 [(0, .ref (ad 1000)), (1, va_rf x1)] → K5 F M h mc ms x1 → W p l e (rmX1_pump mc0 ms0) s m args below meth c H locs k n (MQ below (x_Qc D N0 (x_Vv (qCv ad XF post))) args s mc0 ms0 (x_A N0)) (F0 m 5 ls [])) : ∀ (nn : Nat) (F : (Nat → Int32)) (M : (Nat → Nat → Int32)) (h : x_H) (mc : Nat) (ms : Nat) (x1 : Nat) (x2 : Int32) (x3 : Int32) (k n : Nat) (H : Heap) (locs : List Loc) (ls : Array Slot), x_R D s N0 (fixC ad F M ++ XF) h H → va_S (x_A N0) s.heap H locs → k + mc ≤ mc0 → n + ms ≤ ms0 → lv_has ls 4 [(0, .ref (ad 1000)), (1, .ref x1), (2, .int x2), (3, .int x3)] → wX1_pump_b104 post K5 gp ad nn F M h mc ms x1 x2 x3 → W p l e (rmX1_pump mc0 ms0) s m args below meth c H locs k n (MQ below (x_Qc D N0 (x_Vv (qCv ad XF post))) args s mc0 ms0 (x_A N0)) (F0 m 104 ls []) := by
  obtain ⟨⟨hx, hb, hml, hown, hts⟩, hr, hlocks, hG, hN⟩ := id C
  intro nn
  induction nn with
  | zero =>
    intro F M h mc ms x1 x2 x3 k n H locs ls hR hS hk hn hl hw
    exact False.elim hw
  | succ nn ih =>
    intro F M h mc ms x1 x2 x3 k n H locs ls hR hS hk hn hl hw
    have hK104 := ih
    replace hw : tX1_pump_b104 post K5 (wX1_pump_b104 post K5 gp ad nn) gp ad F M h mc ms x1 x2 x3 := hw
    unfold tX1_pump_b104 at hw
    refine lv_iload_n hx hb dX1_pump_104 rfl (lv_at hl 3 rfl) ?_
    refine lv_iload_n hx hb dX1_pump_105 rfl (lv_at hl 2 rfl) ?_
    refine lv_icmp_ge (tgt := 123) hx hb dX1_pump_106 (by decide) (fun c86 => ?_) (fun c86 => ?_)
    · replace hw := hw.1 c86
      exact kX1_pump_b123 C hK5 hR hS hk hn (lv_sub hl [0, 1] rfl) hw
    · replace hw := hw.2 c86
      refine lv_aload_n hx hb dX1_pump_109 rfl (lv_at hl 0 rfl) ?_
      refine lv_aload_n hx hb dX1_pump_110 rfl (lv_at hl 1 rfl) ?_
      obtain ⟨y88, hf87, hw⟩ := hw
      refine x_getHN (ci := 4) (Cn := RX5) (T := TX5) (N := 9) (k := 5) C hR hf87 rfl in_X5 (by decide) (x_nest C q329 rfl) (fun _ h9 => h9) dX1_pump_111 ?_
      refine x_callv0 (x_runV (n := 1) (As := [.int y88]) C hR hS (kX1_say l D N0 gp ad XF y88 F M h _ hw) (lw_V q389 q391 qs5 q85 q392) rfl rfl (by decide +kernel) ⟨Nat.le_of_ble_eq_true rfl, Nat.le_of_ble_eq_true rfl⟩ (x_recv C (hR.rdX 0 rfl) rfl) rfl hl.1 rfl (Nat.le_of_ble_eq_true rfl) dX1_pump_114 ⟨x_bud0 hk, x_bud0 hn⟩) hS (fun X1 h90 H locs hq hR hS => ?_)
      clear hw
      obtain ⟨F89, M89, e1, hw⟩ := hq
      rw [e1] at hR
      refine lv_iinc (v := x3 + 1) (lv' := [(3, .int (x3 + 1)), (0, .ref (ad 1000)), (1, .ref x1), (2, .int x2)]) hx hb dX1_pump_117 hl (k := 3) rfl (x_inc 1 1 (by decide)) (by decide) rfl (fun ls hl => ?_)
      refine lv_goto (tgt := 104) hx hb dX1_pump_120 (by decide) ?_
      exact hK104 _ _ _ _ _ _ _ _ _ _ _ _ _ hR hS hk hn (lv_sub hl [1, 2, 3, 0] rfl) hw
def wX1_pump_b95 (post : (Nat → Int32) → (Nat → Nat → Int32) → x_H → Prop) (K5 : (Nat → Int32) → (Nat → Nat → Int32) → x_H → Nat → Nat → Option Nat → Prop) (gp : Nat → Nat) (ad : Nat → Nat)  (F : (Nat → Int32)) (M : (Nat → Nat → Int32)) (h : x_H) (mc : Nat) (ms : Nat) (x1 : Nat) (x2 : Int32) (s0 : Int32) (s2 : Int32) : Prop :=
  ∃ y82 : Int32, x_f h x1 4 0 (.int y82) ∧ wX1_head (fun F83 M83 h84 => ∃ n85 : Nat, wX1_pump_b104 post K5 gp ad n85 F83 M83 h84 mc ms x1 x2 0) ad s2 0 s0 y82 F M h
theorem kX1_pump_b95 {post : (Nat → Int32) → (Nat → Nat → Int32) → x_H → Prop} {K5 : (Nat → Int32) → (Nat → Nat → Int32) → x_H → Nat → Nat → Option Nat → Prop} (C : x_C p s m args meth c cX1_pump 4 none RX1 D N0 gp) (hK5 : ∀ (F : (Nat → Int32)) (M : (Nat → Nat → Int32)) (h : x_H) (mc : Nat) (ms : Nat) (x1 : Option Nat) (k n : Nat) (H : Heap) (locs : List Loc) (ls : Array Slot), x_R D s N0 (fixC ad F M ++ XF) h H → va_S (x_A N0) s.heap H locs → k + mc ≤ mc0 → n + ms ≤ ms0 → lv_has ls 4 [(0, .ref (ad 1000)), (1, va_rf x1)] → K5 F M h mc ms x1 → W p l e (rmX1_pump mc0 ms0) s m args below meth c H locs k n (MQ below (x_Qc D N0 (x_Vv (qCv ad XF post))) args s mc0 ms0 (x_A N0)) (F0 m 5 ls [])) {F : (Nat → Int32)} {M : (Nat → Nat → Int32)} {h : x_H} {mc : Nat} {ms : Nat} {x1 : Nat} {x2 : Int32} {s0 : Int32} {s2 : Int32} {k n : Nat} {H : Heap} {locs : List Loc} {ls : Array Slot} (hR : x_R D s N0 (fixC ad F M ++ XF) h H) (hS : va_S (x_A N0) s.heap H locs) (hk : k + mc ≤ mc0) (hn : n + ms ≤ ms0) (hl : lv_has ls 4 [(0, .ref (ad 1000)), (1, .ref x1), (2, .int x2)]) (hw : wX1_pump_b95 post K5 gp ad F M h mc ms x1 x2 s0 s2) : W p l e (rmX1_pump mc0 ms0) s m args below meth c H locs k n (MQ below (x_Qc D N0 (x_Vv (qCv ad XF post))) args s mc0 ms0 (x_A N0)) (F0 m 95 ls [.int s0, .int 0, .int s2, .ref (ad 1000)]) := by
  obtain ⟨⟨hx, hb, hml, hown, hts⟩, hr, hlocks, hG, hN⟩ := id C
  unfold wX1_pump_b95 at hw
  refine lv_aload_n hx hb dX1_pump_95 rfl (lv_at hl 1 rfl) ?_
  obtain ⟨y82, hf81, hw⟩ := hw
  refine x_getHN (ci := 4) (Cn := RX5) (T := TX5) (N := 9) (k := 0) C hR hf81 rfl in_X5 (by decide) (x_nest C q320 rfl) (fun _ h9 => h9) dX1_pump_96 ?_
  refine x_callv0 (x_runV (n := 4) (As := [.int s2, .int 0, .int s0, .int y82]) C hR hS (kX1_head l D N0 gp ad XF s2 0 s0 y82 F M h _ hw) (lw_V q385 q387 qs4 q85 q388) rfl rfl (by decide +kernel) ⟨Nat.le_of_ble_eq_true rfl, Nat.le_of_ble_eq_true rfl⟩ (x_recv C (hR.rdX 0 rfl) rfl) rfl hl.1 rfl (Nat.le_of_ble_eq_true rfl) dX1_pump_99 ⟨x_bud0 hk, x_bud0 hn⟩) hS (fun X1 h84 H locs hq hR hS => ?_)
  clear hw
  obtain ⟨F83, M83, e1, hw⟩ := hq
  rw [e1] at hR
  refine lv_iconst (v := 0) hx hb dX1_pump_102 (by decide) ?_
  refine lv_istore_n (lv' := [(3, .int 0), (0, .ref (ad 1000)), (1, .ref x1), (2, .int x2)]) hx hb dX1_pump_103 rfl hl (by decide) rfl (fun ls hl => ?_)
  obtain ⟨n85, hw⟩ := hw
  exact kX1_pump_b104 C hK5 n85 _ _ _ _ _ _ _ _ _ _ _ _ _ hR hS hk hn (lv_sub hl [1, 2, 3, 0] rfl) hw
def wX1_pump_b146 (post : (Nat → Int32) → (Nat → Nat → Int32) → x_H → Prop) (gp : Nat → Nat) (ad : Nat → Nat)  (F : (Nat → Int32)) (M : (Nat → Nat → Int32)) (h : x_H) (mc : Nat) (ms : Nat) : Prop :=
  post F M h
theorem kX1_pump_b146 {post : (Nat → Int32) → (Nat → Nat → Int32) → x_H → Prop} (C : x_C p s m args meth c cX1_pump 4 none RX1 D N0 gp) {F : (Nat → Int32)} {M : (Nat → Nat → Int32)} {h : x_H} {mc : Nat} {ms : Nat} {k n : Nat} {H : Heap} {locs : List Loc} {ls : Array Slot} (hR : x_R D s N0 (fixC ad F M ++ XF) h H) (hS : va_S (x_A N0) s.heap H locs) (hk : k + mc ≤ mc0) (hn : n + ms ≤ ms0) (hl : lv_has ls 4 []) (hw : wX1_pump_b146 post gp ad F M h mc ms) : W p l e (rmX1_pump mc0 ms0) s m args below meth c H locs k n (MQ below (x_Qc D N0 (x_Vv (qCv ad XF post))) args s mc0 ms0 (x_A N0)) (F0 m 146 ls []) := by
  obtain ⟨⟨hx, hb, hml, hown, hts⟩, hr, hlocks, hG, hN⟩ := id C
  unfold wX1_pump_b146 at hw
  exact x_endv C hR hS ⟨rfl, ⟨_, _, rfl, hw⟩⟩ (x_le hk) (x_le hn) dX1_pump_146
def tX1_pump_b5 (post : (Nat → Int32) → (Nat → Nat → Int32) → x_H → Prop) (K5 : (Nat → Int32) → (Nat → Nat → Int32) → x_H → Nat → Nat → Option Nat → Prop) (gp : Nat → Nat) (ad : Nat → Nat)  (F : (Nat → Int32)) (M : (Nat → Nat → Int32)) (h : x_H) (mc : Nat) (ms : Nat) (x1 : Option Nat) : Prop :=
  (x1 = none → wX1_pump_b146 post gp ad F M h mc ms) ∧ (∀ a54 : Nat, x1 = some a54 → ((F 22) ≤ 0 → wX1_pump_b146 post gp ad F M h mc ms) ∧ (¬ (F 22) ≤ 0 → ∃ y57 : Int32, x_f h a54 4 4 (.int y57) ∧ ∃ y59 : Int32, x_f h a54 4 1 (.int y59) ∧ ∃ y61 : Int32, x_f h a54 4 4 (.int y61) ∧ ∃ (t62 : Nat) (fs63 : List Value), h a54 = some (t62, .inr (4, fs63)) ∧ t62 ≠ 1 ∧ 4 < fs63.length ∧ ∀ h67 : x_H, h67 = x_hs h a54 t62 (.inr (4, fs63.set 4 (.int (y61 - (if (if (F 24) < (F 22) then (F 24) else (F 22)) < (if y59 < y57 then y59 else y57) then (if (F 24) < (F 22) then (F 24) else (F 22)) else (if y59 < y57 then y59 else y57)))))) → ∃ y69 : Int32, x_f h67 a54 4 1 (.int y69) ∧ ∃ (t70 : Nat) (fs71 : List Value), h67 a54 = some (t70, .inr (4, fs71)) ∧ t70 ≠ 1 ∧ 1 < fs71.length ∧ ∀ h75 : x_H, h75 = x_hs h67 a54 t70 (.inr (4, fs71.set 1 (.int (y69 - (if (if (F 24) < (F 22) then (F 24) else (F 22)) < (if y59 < y57 then y59 else y57) then (if (F 24) < (F 22) then (F 24) else (F 22)) else (if y59 < y57 then y59 else y57)))))) → ∃ y77 : Int32, x_f h75 a54 4 0 (.int y77) ∧ ∃ y79 : Int32, x_f h75 a54 4 4 (.int y79) ∧ (y79 = 0 → wX1_pump_b95 post K5 gp ad (upd (upd F 22 ((F 22) - (if (if (F 24) < (F 22) then (F 24) else (F 22)) < (if y59 < y57 then y59 else y57) then (if (F 24) < (F 22) then (F 24) else (F 22)) else (if y59 < y57 then y59 else y57)))) 21 y77) M h75 mc ms a54 (if (if (F 24) < (F 22) then (F 24) else (F 22)) < (if y59 < y57 then y59 else y57) then (if (F 24) < (F 22) then (F 24) else (F 22)) else (if y59 < y57 then y59 else y57)) 1 (if (if (F 24) < (F 22) then (F 24) else (F 22)) < (if y59 < y57 then y59 else y57) then (if (F 24) < (F 22) then (F 24) else (F 22)) else (if y59 < y57 then y59 else y57))) ∧ (¬ y79 = 0 → wX1_pump_b95 post K5 gp ad (upd (upd F 22 ((F 22) - (if (if (F 24) < (F 22) then (F 24) else (F 22)) < (if y59 < y57 then y59 else y57) then (if (F 24) < (F 22) then (F 24) else (F 22)) else (if y59 < y57 then y59 else y57)))) 21 y77) M h75 mc ms a54 (if (if (F 24) < (F 22) then (F 24) else (F 22)) < (if y59 < y57 then y59 else y57) then (if (F 24) < (F 22) then (F 24) else (F 22)) else (if y59 < y57 then y59 else y57)) 0 (if (if (F 24) < (F 22) then (F 24) else (F 22)) < (if y59 < y57 then y59 else y57) then (if (F 24) < (F 22) then (F 24) else (F 22)) else (if y59 < y57 then y59 else y57)))))
def wX1_pump_b5 (post : (Nat → Int32) → (Nat → Nat → Int32) → x_H → Prop) (gp : Nat → Nat) (ad : Nat → Nat)  : Nat → (Nat → Int32) → (Nat → Nat → Int32) → x_H → Nat → Nat → Option Nat → Prop
  | 0 => fun _ _ _ _ _ _ => False
  | n + 1 => fun F M h mc ms x1 => tX1_pump_b5 post (wX1_pump_b5 post gp ad n) gp ad F M h mc ms x1
theorem kX1_pump_b5 {post : (Nat → Int32) → (Nat → Nat → Int32) → x_H → Prop} (C : x_C p s m args meth c cX1_pump 4 none RX1 D N0 gp) : ∀ (nn : Nat) (F : (Nat → Int32)) (M : (Nat → Nat → Int32)) (h : x_H) (mc : Nat) (ms : Nat) (x1 : Option Nat) (k n : Nat) (H : Heap) (locs : List Loc) (ls : Array Slot), x_R D s N0 (fixC ad F M ++ XF) h H → va_S (x_A N0) s.heap H locs → k + mc ≤ mc0 → n + ms ≤ ms0 → lv_has ls 4 [(0, .ref (ad 1000)), (1, va_rf x1)] → wX1_pump_b5 post gp ad nn F M h mc ms x1 → W p l e (rmX1_pump mc0 ms0) s m args below meth c H locs k n (MQ below (x_Qc D N0 (x_Vv (qCv ad XF post))) args s mc0 ms0 (x_A N0)) (F0 m 5 ls []) := by
  obtain ⟨⟨hx, hb, hml, hown, hts⟩, hr, hlocks, hG, hN⟩ := id C
  intro nn
  induction nn with
  | zero =>
    intro F M h mc ms x1 k n H locs ls hR hS hk hn hl hw
    exact False.elim hw
  | succ nn ih =>
    intro F M h mc ms x1 k n H locs ls hR hS hk hn hl hw
    have hK5 := ih
    replace hw : tX1_pump_b5 post (wX1_pump_b5 post gp ad nn) gp ad F M h mc ms x1 := hw
    unfold tX1_pump_b5 at hw
    refine x_aload_nO hx hb dX1_pump_5 rfl (lv_at hl 1 rfl) ?_
    cases x1 with
    | none =>
      replace hw := hw.1 rfl
      refine lv_ifnullN (tgt := 146) hx hb dX1_pump_6 (by decide) ?_
      exact kX1_pump_b146 C hR hS hk hn (lv_sub hl [] rfl) hw
    | some a54 =>
      replace hw := hw.2 a54 rfl
      refine lv_ifnull hx hb dX1_pump_6 ?_
      refine lv_aload_n hx hb dX1_pump_9 rfl (lv_at hl 0 rfl) ?_
      refine x_get (ci := 0) (Cn := RX1) (T := TX1) (N := 27) (v := .int (F 22)) C (hR.rdX 0 rfl) rfl in_X1 22 (by decide) q415 (fun _ h9 => h9) rfl dX1_pump_10 ?_
      refine lv_if_le (tgt := 146) hx hb dX1_pump_13 (by decide) (fun c55 => ?_) (fun c55 => ?_)
      · replace hw := hw.1 c55
        exact kX1_pump_b146 C hR hS hk hn (lv_sub hl [] rfl) hw
      · replace hw := hw.2 c55
        refine lv_aload_n hx hb dX1_pump_16 rfl (lv_at hl 1 rfl) ?_
        obtain ⟨y57, hf56, hw⟩ := hw
        refine x_getHN (ci := 4) (Cn := RX5) (T := TX5) (N := 9) (k := 4) C hR hf56 rfl in_X5 (by decide) (x_nest C q328 rfl) (fun _ h9 => h9) dX1_pump_17 ?_
        refine lv_aload_n hx hb dX1_pump_20 rfl (lv_at hl 1 rfl) ?_
        obtain ⟨y59, hf58, hw⟩ := hw
        refine x_getHN (ci := 4) (Cn := RX5) (T := TX5) (N := 9) (k := 1) C hR hf58 rfl in_X5 (by decide) (x_nest C q322 rfl) (fun _ h9 => h9) dX1_pump_21 ?_
        refine va_mmin hx hb (hml.trans hl.1.symm) hown (hts _ q1061) (hts _ q229) (hts _ q93) (hts _ q230) (Nat.le_of_ble_eq_true rfl) (Nat.le_of_ble_eq_true rfl) (x_le hk) (x_le hn) dX1_pump_24 ?_
        refine lv_aload_n hx hb dX1_pump_27 rfl (lv_at hl 0 rfl) ?_
        refine x_get (ci := 0) (Cn := RX1) (T := TX1) (N := 27) (v := .int (F 22)) C (hR.rdX 0 rfl) rfl in_X1 22 (by decide) q415 (fun _ h9 => h9) rfl dX1_pump_28 ?_
        refine lv_aload_n hx hb dX1_pump_31 rfl (lv_at hl 0 rfl) ?_
        refine x_get (ci := 0) (Cn := RX1) (T := TX1) (N := 27) (v := .int (F 24)) C (hR.rdX 0 rfl) rfl in_X1 24 (by decide) q417 (fun _ h9 => h9) rfl dX1_pump_32 ?_
        refine va_mmin hx hb (hml.trans hl.1.symm) hown (hts _ q1061) (hts _ q229) (hts _ q93) (hts _ q230) (Nat.le_of_ble_eq_true rfl) (Nat.le_of_ble_eq_true rfl) (x_le hk) (x_le hn) dX1_pump_35 ?_
        refine va_mmin hx hb (hml.trans hl.1.symm) hown (hts _ q1061) (hts _ q229) (hts _ q93) (hts _ q230) (Nat.le_of_ble_eq_true rfl) (Nat.le_of_ble_eq_true rfl) (x_le hk) (x_le hn) dX1_pump_38 ?_
        refine lv_istore_n (lv' := [(2, .int (if (if (F 24) < (F 22) then (F 24) else (F 22)) < (if y59 < y57 then y59 else y57) then (if (F 24) < (F 22) then (F 24) else (F 22)) else (if y59 < y57 then y59 else y57))), (0, .ref (ad 1000)), (1, .ref a54)]) hx hb dX1_pump_41 rfl hl (by decide) rfl (fun ls hl => ?_)
        refine lv_aload_n hx hb dX1_pump_42 rfl (lv_at hl 2 rfl) ?_
        refine lv_dup hx hb dX1_pump_43 rfl ?_
        obtain ⟨y61, hf60, hw⟩ := hw
        refine x_getHN (ci := 4) (Cn := RX5) (T := TX5) (N := 9) (k := 4) C hR hf60 rfl in_X5 (by decide) (x_nest C q328 rfl) (fun _ h9 => h9) dX1_pump_44 ?_
        refine lv_iload_n hx hb dX1_pump_47 rfl (lv_at hl 0 rfl) ?_
        refine lv_isub hx hb dX1_pump_48 ?_
        obtain ⟨t62, fs63, he64, ht65, hl66, hw⟩ := hw
        refine x_putHN (ci := 4) (Cn := RX5) (T := TX5) (N := 9) (v := .int (y61 - (if (if (F 24) < (F 22) then (F 24) else (F 22)) < (if y59 < y57 then y59 else y57) then (if (F 24) < (F 22) then (F 24) else (F 22)) else (if y59 < y57 then y59 else y57)))) C hR hS he64 ht65 rfl in_X5 tyX5_ok nmX5 4 (by decide) (x_nest C q328 rfl) (fun _ h9 => h9) rfl rfl rfl hl66 dX1_pump_49 (fun H locs hR hS => ?_)
        obtain ⟨h67, eh67⟩ : ∃ z, z = x_hs h a54 t62 (.inr (4, fs63.set 4 (.int (y61 - (if (if (F 24) < (F 22) then (F 24) else (F 22)) < (if y59 < y57 then y59 else y57) then (if (F 24) < (F 22) then (F 24) else (F 22)) else (if y59 < y57 then y59 else y57)))))) := ⟨_, rfl⟩
        rw [← eh67] at hR
        replace hw := hw h67 eh67
        refine lv_aload_n hx hb dX1_pump_52 rfl (lv_at hl 2 rfl) ?_
        refine lv_dup hx hb dX1_pump_53 rfl ?_
        obtain ⟨y69, hf68, hw⟩ := hw
        refine x_getHN (ci := 4) (Cn := RX5) (T := TX5) (N := 9) (k := 1) C hR hf68 rfl in_X5 (by decide) (x_nest C q322 rfl) (fun _ h9 => h9) dX1_pump_54 ?_
        refine lv_iload_n hx hb dX1_pump_57 rfl (lv_at hl 0 rfl) ?_
        refine lv_isub hx hb dX1_pump_58 ?_
        obtain ⟨t70, fs71, he72, ht73, hl74, hw⟩ := hw
        refine x_putHN (ci := 4) (Cn := RX5) (T := TX5) (N := 9) (v := .int (y69 - (if (if (F 24) < (F 22) then (F 24) else (F 22)) < (if y59 < y57 then y59 else y57) then (if (F 24) < (F 22) then (F 24) else (F 22)) else (if y59 < y57 then y59 else y57)))) C hR hS he72 ht73 rfl in_X5 tyX5_ok nmX5 1 (by decide) (x_nest C q322 rfl) (fun _ h9 => h9) rfl rfl rfl hl74 dX1_pump_59 (fun H locs hR hS => ?_)
        obtain ⟨h75, eh75⟩ : ∃ z, z = x_hs h67 a54 t70 (.inr (4, fs71.set 1 (.int (y69 - (if (if (F 24) < (F 22) then (F 24) else (F 22)) < (if y59 < y57 then y59 else y57) then (if (F 24) < (F 22) then (F 24) else (F 22)) else (if y59 < y57 then y59 else y57)))))) := ⟨_, rfl⟩
        rw [← eh75] at hR
        replace hw := hw h75 eh75
        refine lv_aload_n hx hb dX1_pump_62 rfl (lv_at hl 1 rfl) ?_
        refine lv_dup hx hb dX1_pump_63 rfl ?_
        refine x_get (ci := 0) (Cn := RX1) (T := TX1) (N := 27) (v := .int (F 22)) C (hR.rdX 0 rfl) rfl in_X1 22 (by decide) q415 (fun _ h9 => h9) rfl dX1_pump_64 ?_
        refine lv_iload_n hx hb dX1_pump_67 rfl (lv_at hl 0 rfl) ?_
        refine lv_isub hx hb dX1_pump_68 ?_
        refine x_putX (ci := 0) (Cn := RX1) (T := TX1) (N := 27) (v := .int ((F 22) - (if (if (F 24) < (F 22) then (F 24) else (F 22)) < (if y59 < y57 then y59 else y57) then (if (F 24) < (F 22) then (F 24) else (F 22)) else (if y59 < y57 then y59 else y57)))) C hR hS 0 rfl rfl in_X1 tyX1_ok nmX1 22 (by decide) q415 (fun _ h9 => h9) rfl rfl rfl (Nat.le_of_ble_eq_true rfl) (sC_f22 ..) dX1_pump_69 (fun H locs hR hS => ?_)
        refine lv_aload_n hx hb dX1_pump_72 rfl (lv_at hl 1 rfl) ?_
        refine lv_aload_n hx hb dX1_pump_73 rfl (lv_at hl 2 rfl) ?_
        obtain ⟨y77, hf76, hw⟩ := hw
        refine x_getHN (ci := 4) (Cn := RX5) (T := TX5) (N := 9) (k := 0) C hR hf76 rfl in_X5 (by decide) (x_nest C q320 rfl) (fun _ h9 => h9) dX1_pump_74 ?_
        refine x_putX (ci := 0) (Cn := RX1) (T := TX1) (N := 27) (v := .int y77) C hR hS 0 rfl rfl in_X1 tyX1_ok nmX1 21 (by decide) q414 (fun _ h9 => h9) rfl rfl rfl (Nat.le_of_ble_eq_true rfl) (sC_f21 ..) dX1_pump_77 (fun H locs hR hS => ?_)
        refine lv_aload_n hx hb dX1_pump_80 rfl (lv_at hl 1 rfl) ?_
        refine lv_iload_n hx hb dX1_pump_81 rfl (lv_at hl 0 rfl) ?_
        refine lv_iconst (v := 0) hx hb dX1_pump_82 (by decide) ?_
        refine lv_aload_n hx hb dX1_pump_83 rfl (lv_at hl 2 rfl) ?_
        obtain ⟨y79, hf78, hw⟩ := hw
        refine x_getHN (ci := 4) (Cn := RX5) (T := TX5) (N := 9) (k := 4) C hR hf78 rfl in_X5 (by decide) (x_nest C q328 rfl) (fun _ h9 => h9) dX1_pump_84 ?_
        refine lv_if_ne (tgt := 94) hx hb dX1_pump_87 (by decide) (fun c80 => ?_) (fun c80 => ?_)
        · replace hw := hw.2 c80
          refine lv_iconst (v := 0) hx hb dX1_pump_94 (by decide) ?_
          exact kX1_pump_b95 C hK5 hR hS hk hn (lv_sub hl [1, 2, 0] rfl) hw
        · replace hw := hw.1 c80
          refine lv_iconst (v := 1) hx hb dX1_pump_90 (by decide) ?_
          refine lv_goto (tgt := 95) hx hb dX1_pump_91 (by decide) ?_
          exact kX1_pump_b95 C hK5 hR hS hk hn (lv_sub hl [1, 2, 0] rfl) hw
end
def wX1_pump (post : (Nat → Int32) → (Nat → Nat → Int32) → x_H → Prop) (gp : Nat → Nat) (ad : Nat → Nat)  (F : (Nat → Int32)) (M : (Nat → Nat → Int32)) (h : x_H) (mc : Nat) (ms : Nat) : Prop :=
  wX1_turn (fun r52 => ∃ n53 : Nat, wX1_pump_b5 post gp ad n53 F M h mc ms r52) ad F M h
theorem kX1_pump (l : Launch) (D : va_G) (N0 : Nat) (gp : Nat → Nat) (ad : Nat → Nat) (XF : x_X)  (F : (Nat → Int32)) (M : (Nat → Nat → Int32)) (h : x_H) (mc : Nat) (ms : Nat) (post : (Nat → Int32) → (Nat → Nat → Int32) → x_H → Prop) (hw : wX1_pump post gp ad F M h mc ms) : Met l yX1_pump (ws_ yX1_pump cX1_pump 4 none) (rmX1_pump mc ms) (x_Pc D N0 gp (fixC ad F M ++ XF) h [.ref (ad 1000)]) (x_Qc D N0 (x_Vv (qCv ad XF post))) mc ms (x_A N0) := by
  refine x_start (lv := [(0, .ref (ad 1000))]) (by decide) rfl (Nat.le_of_ble_eq_true rfl) rfl ?_
  intro p e s m below meth c C hR ls hl
  have hS : va_S (x_A N0) s.heap s.heap [] := va_S.rf
  obtain ⟨⟨hx, hb, hml, hown, hts⟩, hr, hlocks, hG, hN⟩ := id C
  unfold wX1_pump at hw
  have hk : 0 + mc ≤ mc := Nat.le_of_eq (Nat.zero_add _)
  have hn : 0 + ms ≤ ms := Nat.le_of_eq (Nat.zero_add _)
  refine lv_aload_n hx hb dX1_pump_0 rfl (lv_at hl 0 rfl) ?_
  refine x_calla0 (x_runV (n := 0) (As := []) C hR hS (kX1_turn l D N0 gp ad XF F M h _ hw) (lw_V q1057 q1059 qs37 q85 q1060) rfl rfl (by decide +kernel) ⟨Nat.le_of_ble_eq_true rfl, Nat.le_of_ble_eq_true rfl⟩ (x_recv C (hR.rdX 0 rfl) rfl) rfl hl.1 rfl (Nat.le_of_ble_eq_true rfl) dX1_pump_1 ⟨x_bud0 hk, x_bud0 hn⟩) hS (fun r52 X1 h1 H locs hq hR hS => ?_)
  clear hw
  obtain ⟨e1, e2, hw⟩ := hq
  rw [e1, e2] at hR
  refine x_astore_nO (lv' := [(1, va_rf r52), (0, .ref (ad 1000))]) hx hb dX1_pump_4 rfl hl (by decide) rfl (fun ls hl => ?_)
  obtain ⟨n53, hw⟩ := hw
  exact kX1_pump_b5 C n53 _ _ _ _ _ _ _ _ _ _ _ hR hS hk hn (lv_sub hl [1, 0] rfl) hw
/-- PageServer.whole()V -/
abbrev rmX1_whole (mc0 ms0 : Nat) : Room := { frames := 14, cells := mc0, slots := ms0, locals := 328 }
section
variable {p : Program} {l : Launch} {e : Env} {s : State} {m : MethodId} {args : Array Value} {below : List Frame} {meth : Method} {c : Code} {D : va_G} {N0 : Nat} {gp : Nat → Nat} {ad : Nat → Nat} {XF : x_X} {mc0 ms0 : Nat}
def wX1_whole_b31 (post : (Nat → Int32) → (Nat → Nat → Int32) → x_H → Prop) (gp : Nat → Nat) (ad : Nat → Nat)  (F : (Nat → Int32)) (M : (Nat → Nat → Int32)) (h : x_H) (mc : Nat) (ms : Nat) : Prop :=
  post F M h
theorem kX1_whole_b31 {post : (Nat → Int32) → (Nat → Nat → Int32) → x_H → Prop} (C : x_C p s m args meth c cX1_whole 2 none RX1 D N0 gp) (hlt : l.stackTraces = false) (hxt : c.exceptionTable.toList = tableOf [(0, 4, 7, 60), (0, 4, 15, 164)]) {F : (Nat → Int32)} {M : (Nat → Nat → Int32)} {h : x_H} {mc : Nat} {ms : Nat} {k n : Nat} {H : Heap} {locs : List Loc} {ls : Array Slot} (hR : x_R D s N0 (fixC ad F M ++ XF) h H) (hS : va_S (x_A N0) s.heap H locs) (hk : k + mc ≤ mc0) (hn : n + ms ≤ ms0) (hl : lv_has ls 2 []) (hw : wX1_whole_b31 post gp ad F M h mc ms) : W p l e (rmX1_whole mc0 ms0) s m args below meth c H locs k n (MQ below (x_Qc D N0 (x_Vv (qCv ad XF post))) args s mc0 ms0 (x_A N0)) (F0 m 31 ls []) := by
  obtain ⟨⟨hx, hb, hml, hown, hts⟩, hr, hlocks, hG, hN⟩ := id C
  unfold wX1_whole_b31 at hw
  exact x_endv C hR hS ⟨rfl, ⟨_, _, rfl, hw⟩⟩ (x_le hk) (x_le hn) dX1_whole_31
def wX1_whole_b20 (post : (Nat → Int32) → (Nat → Nat → Int32) → x_H → Prop) (gp : Nat → Nat) (ad : Nat → Nat)  (F : (Nat → Int32)) (M : (Nat → Nat → Int32)) (h : x_H) (mc : Nat) (ms : Nat) : Prop :=
  ((F 19) = 0 → ∃ ca39 cb40 mc41 ms42 : Nat, ca39 + mc41 ≤ mc ∧ cb40 + ms42 ≤ ms ∧ wX1_pump (fun F43 M43 h44 => wX1_whole_b31 post gp ad F43 M43 h44 mc41 ms42) gp ad F M h ca39 cb40) ∧ (¬ (F 19) = 0 → wX1_whole_b31 post gp ad F M h mc ms)
theorem kX1_whole_b20 {post : (Nat → Int32) → (Nat → Nat → Int32) → x_H → Prop} (C : x_C p s m args meth c cX1_whole 2 none RX1 D N0 gp) (hlt : l.stackTraces = false) (hxt : c.exceptionTable.toList = tableOf [(0, 4, 7, 60), (0, 4, 15, 164)]) {F : (Nat → Int32)} {M : (Nat → Nat → Int32)} {h : x_H} {mc : Nat} {ms : Nat} {k n : Nat} {H : Heap} {locs : List Loc} {ls : Array Slot} (hR : x_R D s N0 (fixC ad F M ++ XF) h H) (hS : va_S (x_A N0) s.heap H locs) (hk : k + mc ≤ mc0) (hn : n + ms ≤ ms0) (hl : lv_has ls 2 [(0, .ref (ad 1000))]) (hw : wX1_whole_b20 post gp ad F M h mc ms) : W p l e (rmX1_whole mc0 ms0) s m args below meth c H locs k n (MQ below (x_Qc D N0 (x_Vv (qCv ad XF post))) args s mc0 ms0 (x_A N0)) (F0 m 20 ls []) := by
  obtain ⟨⟨hx, hb, hml, hown, hts⟩, hr, hlocks, hG, hN⟩ := id C
  unfold wX1_whole_b20 at hw
  refine lv_aload_n hx hb dX1_whole_20 rfl (lv_at hl 0 rfl) ?_
  refine x_get (ci := 0) (Cn := RX1) (T := TX1) (N := 27) (v := .int (F 19)) C (hR.rdX 0 rfl) rfl in_X1 19 (by decide) q412 (fun _ h9 => h9) rfl dX1_whole_21 ?_
  refine lv_if_ne (tgt := 31) hx hb dX1_whole_24 (by decide) (fun c38 => ?_) (fun c38 => ?_)
  · replace hw := hw.2 c38
    exact kX1_whole_b31 C hlt hxt hR hS hk hn (lv_sub hl [] rfl) hw
  · replace hw := hw.1 c38
    refine lv_aload_n hx hb dX1_whole_27 rfl (lv_at hl 0 rfl) ?_
    obtain ⟨ca39, cb40, mc41, ms42, hca39, hcb40, hw⟩ := hw
    refine x_callv (x_runV (n := 0) (As := []) C hR hS (kX1_pump l D N0 gp ad XF F M h ca39 cb40 _ hw) (lw_V q1053 q1055 qs36 q85 q1056) rfl rfl (by decide +kernel) ⟨Nat.le_of_ble_eq_true rfl, Nat.le_of_ble_eq_true rfl⟩ (x_recv C (hR.rdX 0 rfl) rfl) rfl hl.1 rfl (Nat.le_of_ble_eq_true rfl) dX1_whole_28 ⟨x_bud hk hca39, x_bud hn hcb40⟩) hS (fun X1 h44 H locs hq hR hS => ?_)
    clear hw
    obtain ⟨F43, M43, e1, hw⟩ := hq
    rw [e1] at hR
    have hk := x_budN hk hca39
    have hn := x_budN hn hcb40
    exact kX1_whole_b31 C hlt hxt hR hS hk hn (lv_sub hl [] rfl) hw
end
def wX1_whole (post : (Nat → Int32) → (Nat → Nat → Int32) → x_H → Prop) (gp : Nat → Nat) (ad : Nat → Nat)  (F : (Nat → Int32)) (M : (Nat → Nat → Int32)) (h : x_H) (mc : Nat) (ms : Nat) : Prop :=
  ∃ ca23 cb24 mc25 ms26 : Nat, ca23 + mc25 ≤ mc ∧ cb24 + ms26 ≤ ms ∧ wX1_look (fun F27 M27 h28 => wX1_whole_b20 post gp ad F27 M27 h28 mc25 ms26) (fun E29 F29 M29 h29 => (E29 = "java/lang/IllegalArgumentException" ∨ E29 = "java/lang/IllegalStateException") ∧ ∀ q29 : Nat, (E29 = "java/lang/IllegalArgumentException" → ∃ ca30 cb31 mc32 ms33 : Nat, ca30 + mc32 ≤ mc25 ∧ cb31 + ms33 ≤ ms26 ∧ wX1_reset (fun F34 M34 h35 => wX1_whole_b20 post gp ad F34 M34 h35 mc32 ms33) gp ad F29 M29 h29 ca30 cb31) ∧ (E29 = "java/lang/IllegalStateException" → wX1_goAway (fun F36 M36 h37 => wX1_whole_b20 post gp ad F36 M36 h37 mc25 ms26) ad F29 M29 h29)) gp ad F M h ca23 cb24
theorem kX1_whole (l : Launch) (D : va_G) (N0 : Nat) (gp : Nat → Nat) (ad : Nat → Nat) (XF : x_X)  (F : (Nat → Int32)) (M : (Nat → Nat → Int32)) (h : x_H) (mc : Nat) (ms : Nat) (post : (Nat → Int32) → (Nat → Nat → Int32) → x_H → Prop) (hlt : l.stackTraces = false) (hw : wX1_whole post gp ad F M h mc ms) : Met l yX1_whole (wsW_ yX1_whole cX1_whole 2 none [(0, 4, 7, 60), (0, 4, 15, 164)]) (rmX1_whole mc ms) (x_Pc D N0 gp (fixC ad F M ++ XF) h [.ref (ad 1000)]) (x_Qc D N0 (x_Vv (qCv ad XF post))) mc ms (x_A N0) := by
  refine x_startW (lv := [(0, .ref (ad 1000))]) (by decide) rfl (Nat.le_of_ble_eq_true rfl) rfl ?_
  intro p e s m below meth c C hxt hR ls hl
  have hS : va_S (x_A N0) s.heap s.heap [] := va_S.rf
  obtain ⟨⟨hx, hb, hml, hown, hts⟩, hr, hlocks, hG, hN⟩ := id C
  unfold wX1_whole at hw
  have hk : 0 + mc ≤ mc := Nat.le_of_eq (Nat.zero_add _)
  have hn : 0 + ms ≤ ms := Nat.le_of_eq (Nat.zero_add _)
  refine lv_aload_n hx hb dX1_whole_0 rfl (lv_at hl 0 rfl) ?_
  obtain ⟨ca23, cb24, mc25, ms26, hca23, hcb24, hw⟩ := hw
  refine x_callXv (x_runVX (n := 0) (As := []) C hR hS (kX1_look l D N0 gp ad XF F M h ca23 cb24 _ _ hlt hw) (lw_V q499 q501 qs9 q85 q502) rfl rfl (by decide +kernel) ⟨Nat.le_of_ble_eq_true rfl, Nat.le_of_ble_eq_true rfl⟩ (x_recv C (hR.rdX 0 rfl) rfl) rfl hl.1 rfl (Nat.le_of_ble_eq_true rfl) dX1_whole_1 ⟨x_bud hk hca23, x_bud hn hcb24⟩) hS ?_ (fun X1 h28 H locs hq hR hS => ?_)
  · intro E29 ce q29 X1 h29 H locs hq hR hS hce hcv hcl
    clear hw
    obtain ⟨F29, M29, e1, hE, hw⟩ := hq
    rw [e1] at hR
    replace hw := hw q29
    have hk := x_budN hk hca23
    have hn := x_budN hn hcb24
    rcases hE with rfl | rfl
    · refine x_catch1 C _ _ hxt rfl (by decide) q497 q611 hce hcv hcl ?_
      replace hw := hw.1 rfl
      refine lv_astore_n (lv' := [(1, .ref q29), (0, .ref (ad 1000))]) hx hb dX1_whole_7 rfl hl (by decide) rfl (fun ls hl => ?_)
      refine lv_aload_n hx hb dX1_whole_8 rfl (lv_at hl 1 rfl) ?_
      obtain ⟨ca30, cb31, mc32, ms33, hca30, hcb31, hw⟩ := hw
      refine x_callv (x_runV (n := 0) (As := []) C hR hS (kX1_reset l D N0 gp ad XF F29 M29 h29 ca30 cb31 _ hw) (lw_V q1049 q1051 qs35 q85 q1052) rfl rfl (by decide +kernel) ⟨Nat.le_of_ble_eq_true rfl, Nat.le_of_ble_eq_true rfl⟩ (x_recv C (hR.rdX 0 rfl) rfl) rfl hl.1 rfl (Nat.le_of_ble_eq_true rfl) dX1_whole_9 ⟨x_bud hk hca30, x_bud hn hcb31⟩) hS (fun X1 h35 H locs hq hR hS => ?_)
      clear hw
      obtain ⟨F34, M34, e1, hw⟩ := hq
      rw [e1] at hR
      have hk := x_budN hk hca30
      have hn := x_budN hn hcb31
      refine lv_goto (tgt := 20) hx hb dX1_whole_12 (by decide) ?_
      exact kX1_whole_b20 C hlt hxt hR hS hk hn (lv_sub hl [1] rfl) hw
    · refine x_catch2 C _ _ _ hxt (by decide) q497 hG.2.2.2.2.2 rfl (by decide) q498 q512 hce hcv hcl ?_
      replace hw := hw.2 rfl
      refine lv_astore_n (lv' := [(1, .ref q29), (0, .ref (ad 1000))]) hx hb dX1_whole_15 rfl hl (by decide) rfl (fun ls hl => ?_)
      refine lv_aload_n hx hb dX1_whole_16 rfl (lv_at hl 1 rfl) ?_
      refine x_callv0 (x_runV (n := 0) (As := []) C hR hS (kX1_goAway l D N0 gp ad XF F29 M29 h29 _ hw) (lw_V q489 q491 qs7 q85 q492) rfl rfl (by decide +kernel) ⟨Nat.le_of_ble_eq_true rfl, Nat.le_of_ble_eq_true rfl⟩ (x_recv C (hR.rdX 0 rfl) rfl) rfl hl.1 rfl (Nat.le_of_ble_eq_true rfl) dX1_whole_17 ⟨x_bud0 hk, x_bud0 hn⟩) hS (fun X1 h37 H locs hq hR hS => ?_)
      clear hw
      obtain ⟨F36, M36, e1, hw⟩ := hq
      rw [e1] at hR
      exact kX1_whole_b20 C hlt hxt hR hS hk hn (lv_sub hl [1] rfl) hw
  clear hw
  obtain ⟨F27, M27, e1, hw⟩ := hq
  rw [e1] at hR
  have hk := x_budN hk hca23
  have hn := x_budN hn hcb24
  refine lv_goto (tgt := 20) hx hb dX1_whole_4 (by decide) ?_
  exact kX1_whole_b20 C hlt hxt hR hS hk hn (lv_sub hl [0] rfl) hw
/-- PageServer.byteCame(I)V -/
abbrev rmX1_byteCame (mc0 ms0 : Nat) : Room := { frames := 15, cells := mc0, slots := ms0, locals := 349 }
section
variable {p : Program} {l : Launch} {e : Env} {s : State} {m : MethodId} {args : Array Value} {below : List Frame} {meth : Method} {c : Code} {D : va_G} {N0 : Nat} {gp : Nat → Nat} {ad : Nat → Nat} {XF : x_X} {mc0 ms0 : Nat}
def wX1_byteCame_b52 (post : (Nat → Int32) → (Nat → Nat → Int32) → x_H → Prop) (gp : Nat → Nat) (ad : Nat → Nat) (p1 : Int32) (F : (Nat → Int32)) (M : (Nat → Nat → Int32)) (h : x_H) (mc : Nat) (ms : Nat) : Prop :=
  post F M h
theorem kX1_byteCame_b52 {post : (Nat → Int32) → (Nat → Nat → Int32) → x_H → Prop} {p1 : Int32} (C : x_C p s m args meth c cX1_byteCame 3 none RX1 D N0 gp) (hlt : l.stackTraces = false) {F : (Nat → Int32)} {M : (Nat → Nat → Int32)} {h : x_H} {mc : Nat} {ms : Nat} {k n : Nat} {H : Heap} {locs : List Loc} {ls : Array Slot} (hR : x_R D s N0 (fixC ad F M ++ XF) h H) (hS : va_S (x_A N0) s.heap H locs) (hk : k + mc ≤ mc0) (hn : n + ms ≤ ms0) (hl : lv_has ls 3 []) (hw : wX1_byteCame_b52 post gp ad p1 F M h mc ms) : W p l e (rmX1_byteCame mc0 ms0) s m args below meth c H locs k n (MQ below (x_Qc D N0 (x_Vv (qCv ad XF post))) args s mc0 ms0 (x_A N0)) (F0 m 52 ls []) := by
  obtain ⟨⟨hx, hb, hml, hown, hts⟩, hr, hlocks, hG, hN⟩ := id C
  unfold wX1_byteCame_b52 at hw
  exact x_endv C hR hS ⟨rfl, ⟨_, _, rfl, hw⟩⟩ (x_le hk) (x_le hn) dX1_byteCame_52
def wX1_byteCame_b28 (post : (Nat → Int32) → (Nat → Nat → Int32) → x_H → Prop) (gp : Nat → Nat) (ad : Nat → Nat) (p1 : Int32) (F : (Nat → Int32)) (M : (Nat → Nat → Int32)) (h : x_H) (mc : Nat) (ms : Nat) (s0 : Int32) : Prop :=
  (s0 = 0 → wX1_goAway (fun F51 M51 h52 => wX1_byteCame_b52 post gp ad p1 F51 M51 h52 mc ms) ad (upd (upd F 8 ((F 8) + 1)) 20 1) M h) ∧ (¬ s0 = 0 → wX1_byteCame_b52 post gp ad p1 (upd (upd F 8 ((F 8) + 1)) 20 1) M h mc ms)
theorem kX1_byteCame_b28 {post : (Nat → Int32) → (Nat → Nat → Int32) → x_H → Prop} {p1 : Int32} (C : x_C p s m args meth c cX1_byteCame 3 none RX1 D N0 gp) (hlt : l.stackTraces = false) {F : (Nat → Int32)} {M : (Nat → Nat → Int32)} {h : x_H} {mc : Nat} {ms : Nat} {s0 : Int32} {k n : Nat} {H : Heap} {locs : List Loc} {ls : Array Slot} (hR : x_R D s N0 (fixC ad F M ++ XF) h H) (hS : va_S (x_A N0) s.heap H locs) (hk : k + mc ≤ mc0) (hn : n + ms ≤ ms0) (hl : lv_has ls 3 [(0, .ref (ad 1000))]) (hw : wX1_byteCame_b28 post gp ad p1 F M h mc ms s0) : W p l e (rmX1_byteCame mc0 ms0) s m args below meth c H locs k n (MQ below (x_Qc D N0 (x_Vv (qCv ad XF post))) args s mc0 ms0 (x_A N0)) (F0 m 28 ls [.int s0]) := by
  obtain ⟨⟨hx, hb, hml, hown, hts⟩, hr, hlocks, hG, hN⟩ := id C
  unfold wX1_byteCame_b28 at hw
  refine lv_istore_n (lv' := [(2, .int s0), (0, .ref (ad 1000))]) hx hb dX1_byteCame_28 rfl hl (by decide) rfl (fun ls hl => ?_)
  refine lv_aload_n hx hb dX1_byteCame_29 rfl (lv_at hl 1 rfl) ?_
  refine lv_dup hx hb dX1_byteCame_30 rfl ?_
  refine x_get (ci := 0) (Cn := RX1) (T := TX1) (N := 27) (v := .int (F 8)) C (hR.rdX 0 rfl) rfl in_X1 8 (by decide) q401 (fun _ h9 => h9) rfl dX1_byteCame_31 ?_
  refine lv_iconst (v := 1) hx hb dX1_byteCame_34 (by decide) ?_
  refine lv_iadd hx hb dX1_byteCame_35 ?_
  refine x_putX (ci := 0) (Cn := RX1) (T := TX1) (N := 27) (v := .int ((F 8) + 1)) C hR hS 0 rfl rfl in_X1 tyX1_ok nmX1 8 (by decide) q401 (fun _ h9 => h9) rfl rfl rfl (Nat.le_of_ble_eq_true rfl) (sC_f8 ..) dX1_byteCame_36 (fun H locs hR hS => ?_)
  refine lv_aload_n hx hb dX1_byteCame_39 rfl (lv_at hl 1 rfl) ?_
  refine lv_iconst (v := 1) hx hb dX1_byteCame_40 (by decide) ?_
  refine x_putX (ci := 0) (Cn := RX1) (T := TX1) (N := 27) (v := .int 1) C hR hS 0 rfl rfl in_X1 tyX1_ok nmX1 20 (by decide) q413 (fun _ h9 => h9) rfl rfl rfl (Nat.le_of_ble_eq_true rfl) (sC_f20 ..) dX1_byteCame_41 (fun H locs hR hS => ?_)
  refine lv_iload_n hx hb dX1_byteCame_44 rfl (lv_at hl 0 rfl) ?_
  refine lv_if_ne (tgt := 52) hx hb dX1_byteCame_45 (by decide) (fun c50 => ?_) (fun c50 => ?_)
  · replace hw := hw.2 c50
    exact kX1_byteCame_b52 C hlt hR hS hk hn (lv_sub hl [] rfl) hw
  · replace hw := hw.1 c50
    refine lv_aload_n hx hb dX1_byteCame_48 rfl (lv_at hl 1 rfl) ?_
    refine x_callv0 (x_runV (n := 0) (As := []) C hR hS (kX1_goAway l D N0 gp ad XF (upd (upd F 8 ((F 8) + 1)) 20 1) M h _ hw) (lw_V q489 q491 qs7 q85 q492) rfl rfl (by decide +kernel) ⟨Nat.le_of_ble_eq_true rfl, Nat.le_of_ble_eq_true rfl⟩ (x_recv C (hR.rdX 0 rfl) rfl) rfl hl.1 rfl (Nat.le_of_ble_eq_true rfl) dX1_byteCame_49 ⟨x_bud0 hk, x_bud0 hn⟩) hS (fun X1 h52 H locs hq hR hS => ?_)
    clear hw
    obtain ⟨F51, M51, e1, hw⟩ := hq
    rw [e1] at hR
    exact kX1_byteCame_b52 C hlt hR hS hk hn (lv_sub hl [] rfl) hw
end
def wX1_byteCame (post : (Nat → Int32) → (Nat → Nat → Int32) → x_H → Prop) (gp : Nat → Nat) (ad : Nat → Nat) (p1 : Int32) (F : (Nat → Int32)) (M : (Nat → Nat → Int32)) (h : x_H) (mc : Nat) (ms : Nat) : Prop :=
  ∃ (t27 : Nat) (ty28 : FieldType) (x29 : vp_A), h (gp 1) = some (t27, .inl (ty28, x29)) ∧ ((nI x29.1) ≤ (F 8) → vp_in (F 7) 204 ∧ ((4 : Int32) ≤ ((F 7) + 1) → ((((upd (M 6) (F 7).toNatClampNeg (vp_nar .byte p1.toInt8.toInt32)) ((0 : Int32).toNatClampNeg)) &&& 255) ≤ 200 → (((4 : Int32) + (((upd (M 6) (F 7).toNatClampNeg (vp_nar .byte p1.toInt8.toInt32)) ((0 : Int32).toNatClampNeg)) &&& 255)) ≤ ((F 7) + 1) → ∃ ca36 cb37 mc38 ms39 : Nat, ca36 + mc38 ≤ mc ∧ cb37 + ms39 ≤ ms ∧ wX1_whole (fun F40 M40 h41 => post F40 M40 h41) gp ad (upd (upd (upd (upd (upd (upd F 7 ((F 7) + 1)) 12 (((upd (M 6) (F 7).toNatClampNeg (vp_nar .byte p1.toInt8.toInt32)) ((0 : Int32).toNatClampNeg)) &&& 255)) 9 (((upd (M 6) (F 7).toNatClampNeg (vp_nar .byte p1.toInt8.toInt32)) ((1 : Int32).toNatClampNeg)) &&& 255)) 10 (((upd (M 6) (F 7).toNatClampNeg (vp_nar .byte p1.toInt8.toInt32)) ((2 : Int32).toNatClampNeg)) &&& 255)) 11 (((upd (M 6) (F 7).toNatClampNeg (vp_nar .byte p1.toInt8.toInt32)) ((3 : Int32).toNatClampNeg)) &&& 255)) 7 0) (va_up M 6 (upd (M 6) (F 7).toNatClampNeg (vp_nar .byte p1.toInt8.toInt32))) h ca36 cb37) ∧ (¬ ((4 : Int32) + (((upd (M 6) (F 7).toNatClampNeg (vp_nar .byte p1.toInt8.toInt32)) ((0 : Int32).toNatClampNeg)) &&& 255)) ≤ ((F 7) + 1) → post (upd (upd F 7 ((F 7) + 1)) 12 (((upd (M 6) (F 7).toNatClampNeg (vp_nar .byte p1.toInt8.toInt32)) ((0 : Int32).toNatClampNeg)) &&& 255)) (va_up M 6 (upd (M 6) (F 7).toNatClampNeg (vp_nar .byte p1.toInt8.toInt32))) h)) ∧ (¬ (((upd (M 6) (F 7).toNatClampNeg (vp_nar .byte p1.toInt8.toInt32)) ((0 : Int32).toNatClampNeg)) &&& 255) ≤ 200 → wX1_goAway (fun F42 M42 h43 => post F42 M42 h43) ad (upd (upd (upd F 7 ((F 7) + 1)) 12 (((upd (M 6) (F 7).toNatClampNeg (vp_nar .byte p1.toInt8.toInt32)) ((0 : Int32).toNatClampNeg)) &&& 255)) 20 6) (va_up M 6 (upd (M 6) (F 7).toNatClampNeg (vp_nar .byte p1.toInt8.toInt32))) h)) ∧ (¬ (4 : Int32) ≤ ((F 7) + 1) → post (upd F 7 ((F 7) + 1)) (va_up M 6 (upd (M 6) (F 7).toNatClampNeg (vp_nar .byte p1.toInt8.toInt32))) h)) ∧ (¬ (nI x29.1) ≤ (F 8) → ∃ (t44 n45 : Nat) (f46 : Nat → Int32), h (gp 1) = some (t44, .inl (.int, (n45, .inl f46))) ∧ vp_in (F 8) n45 ∧ (p1 = (f46 (F 8).toNatClampNeg) → wX1_byteCame_b28 post gp ad p1 F M h mc ms 1) ∧ (¬ p1 = (f46 (F 8).toNatClampNeg) → wX1_byteCame_b28 post gp ad p1 F M h mc ms 0))
theorem kX1_byteCame (l : Launch) (D : va_G) (N0 : Nat) (gp : Nat → Nat) (ad : Nat → Nat) (XF : x_X) (p1 : Int32) (F : (Nat → Int32)) (M : (Nat → Nat → Int32)) (h : x_H) (mc : Nat) (ms : Nat) (post : (Nat → Int32) → (Nat → Nat → Int32) → x_H → Prop) (hlt : l.stackTraces = false) (hw : wX1_byteCame post gp ad p1 F M h mc ms) : Met l yX1_byteCame (ws_ yX1_byteCame cX1_byteCame 3 none) (rmX1_byteCame mc ms) (x_Pc D N0 gp (fixC ad F M ++ XF) h [.ref (ad 1000), .int p1]) (x_Qc D N0 (x_Vv (qCv ad XF post))) mc ms (x_A N0) := by
  refine x_start (lv := [(0, .ref (ad 1000)), (1, .int p1)]) (by decide) rfl (Nat.le_of_ble_eq_true rfl) rfl ?_
  intro p e s m below meth c C hR ls hl
  have hS : va_S (x_A N0) s.heap s.heap [] := va_S.rf
  obtain ⟨⟨hx, hb, hml, hown, hts⟩, hr, hlocks, hG, hN⟩ := id C
  unfold wX1_byteCame at hw
  have hk : 0 + mc ≤ mc := Nat.le_of_eq (Nat.zero_add _)
  have hn : 0 + ms ≤ ms := Nat.le_of_eq (Nat.zero_add _)
  refine lv_aload_n hx hb dX1_byteCame_0 rfl (lv_at hl 0 rfl) ?_
  refine x_get (ci := 0) (Cn := RX1) (T := TX1) (N := 27) (v := .int (F 8)) C (hR.rdX 0 rfl) rfl in_X1 8 (by decide) q401 (fun _ h9 => h9) rfl dX1_byteCame_1 ?_
  refine x_gets C hS hG.2.2.1.2.1 q487 dX1_byteCame_4 ?_
  obtain ⟨t27, ty28, x29, he30, hw⟩ := hw
  refine x_alen C (hR.rdH he30) dX1_byteCame_7 ?_
  refine lv_icmp_ge (tgt := 53) hx hb dX1_byteCame_8 (by decide) (fun c31 => ?_) (fun c31 => ?_)
  · replace hw := hw.1 c31
    refine lv_aload_n hx hb dX1_byteCame_53 rfl (lv_at hl 0 rfl) ?_
    refine x_get (ci := 0) (Cn := RX1) (T := TX1) (N := 27) (v := .ref (ad 6)) C (hR.rdX 0 rfl) rfl in_X1 6 (by decide) q399 (fun _ h9 => h9) rfl dX1_byteCame_54 ?_
    refine lv_aload_n hx hb dX1_byteCame_57 rfl (lv_at hl 0 rfl) ?_
    refine x_get (ci := 0) (Cn := RX1) (T := TX1) (N := 27) (v := .int (F 7)) C (hR.rdX 0 rfl) rfl in_X1 7 (by decide) q400 (fun _ h9 => h9) rfl dX1_byteCame_58 ?_
    refine lv_iload_n hx hb dX1_byteCame_61 rfl (lv_at hl 1 rfl) ?_
    refine lv_i2b hx hb dX1_byteCame_62 rfl ?_
    obtain ⟨b32, hw⟩ := hw
    refine x_bastX (n := 204) (f := (M 6)) C hR hS 3 rfl b32 (sC_a6 ..) dX1_byteCame_63 (fun H locs hR hS => ?_)
    refine lv_aload_n hx hb dX1_byteCame_64 rfl (lv_at hl 0 rfl) ?_
    refine lv_dup hx hb dX1_byteCame_65 rfl ?_
    refine x_get (ci := 0) (Cn := RX1) (T := TX1) (N := 27) (v := .int (F 7)) C (hR.rdX 0 rfl) rfl in_X1 7 (by decide) q400 (fun _ h9 => h9) rfl dX1_byteCame_66 ?_
    refine lv_iconst (v := 1) hx hb dX1_byteCame_69 (by decide) ?_
    refine lv_iadd hx hb dX1_byteCame_70 ?_
    refine x_putX (ci := 0) (Cn := RX1) (T := TX1) (N := 27) (v := .int ((F 7) + 1)) C hR hS 0 rfl rfl in_X1 tyX1_ok nmX1 7 (by decide) q400 (fun _ h9 => h9) rfl rfl rfl (Nat.le_of_ble_eq_true rfl) (sC_f7 ..) dX1_byteCame_71 (fun H locs hR hS => ?_)
    refine lv_aload_n hx hb dX1_byteCame_74 rfl (lv_at hl 0 rfl) ?_
    refine x_get (ci := 0) (Cn := RX1) (T := TX1) (N := 27) (v := .int ((F 7) + 1)) C (hR.rdX 0 rfl) rfl in_X1 7 (by decide) q400 (fun _ h9 => h9) rfl dX1_byteCame_75 ?_
    refine lv_iconst (v := 4) hx hb dX1_byteCame_78 (by decide) ?_
    refine lv_icmp_ge (tgt := 83) hx hb dX1_byteCame_79 (by decide) (fun c33 => ?_) (fun c33 => ?_)
    · replace hw := hw.1 c33
      refine lv_aload_n hx hb dX1_byteCame_83 rfl (lv_at hl 0 rfl) ?_
      refine lv_aload_n hx hb dX1_byteCame_84 rfl (lv_at hl 0 rfl) ?_
      refine x_get (ci := 0) (Cn := RX1) (T := TX1) (N := 27) (v := .ref (ad 6)) C (hR.rdX 0 rfl) rfl in_X1 6 (by decide) q399 (fun _ h9 => h9) rfl dX1_byteCame_85 ?_
      refine lv_iconst (v := 0) hx hb dX1_byteCame_88 (by decide) ?_
      refine x_bald (n := 204) (f := upd (M 6) (F 7).toNatClampNeg (vp_nar .byte p1.toInt8.toInt32)) C (hR.rdX 3 rfl) (by unfold vp_in; decide) dX1_byteCame_89 ?_
      refine lv_sipush (v := 255) hx hb dX1_byteCame_90 (by decide) ?_
      refine lv_iand hx hb dX1_byteCame_93 ?_
      refine x_putX (ci := 0) (Cn := RX1) (T := TX1) (N := 27) (v := .int (((upd (M 6) (F 7).toNatClampNeg (vp_nar .byte p1.toInt8.toInt32)) ((0 : Int32).toNatClampNeg)) &&& 255)) C hR hS 0 rfl rfl in_X1 tyX1_ok nmX1 12 (by decide) q405 (fun _ h9 => h9) rfl rfl rfl (Nat.le_of_ble_eq_true rfl) (sC_f12 ..) dX1_byteCame_94 (fun H locs hR hS => ?_)
      refine lv_aload_n hx hb dX1_byteCame_97 rfl (lv_at hl 0 rfl) ?_
      refine x_get (ci := 0) (Cn := RX1) (T := TX1) (N := 27) (v := .int (((upd (M 6) (F 7).toNatClampNeg (vp_nar .byte p1.toInt8.toInt32)) ((0 : Int32).toNatClampNeg)) &&& 255)) C (hR.rdX 0 rfl) rfl in_X1 12 (by decide) q405 (fun _ h9 => h9) rfl dX1_byteCame_98 ?_
      refine lv_sipush (v := 200) hx hb dX1_byteCame_101 (by decide) ?_
      refine lv_icmp_le (tgt := 118) hx hb dX1_byteCame_104 (by decide) (fun c34 => ?_) (fun c34 => ?_)
      · replace hw := hw.1 c34
        refine lv_aload_n hx hb dX1_byteCame_118 rfl (lv_at hl 0 rfl) ?_
        refine x_get (ci := 0) (Cn := RX1) (T := TX1) (N := 27) (v := .int ((F 7) + 1)) C (hR.rdX 0 rfl) rfl in_X1 7 (by decide) q400 (fun _ h9 => h9) rfl dX1_byteCame_119 ?_
        refine lv_iconst (v := 4) hx hb dX1_byteCame_122 (by decide) ?_
        refine lv_aload_n hx hb dX1_byteCame_123 rfl (lv_at hl 0 rfl) ?_
        refine x_get (ci := 0) (Cn := RX1) (T := TX1) (N := 27) (v := .int (((upd (M 6) (F 7).toNatClampNeg (vp_nar .byte p1.toInt8.toInt32)) ((0 : Int32).toNatClampNeg)) &&& 255)) C (hR.rdX 0 rfl) rfl in_X1 12 (by decide) q405 (fun _ h9 => h9) rfl dX1_byteCame_124 ?_
        refine lv_iadd hx hb dX1_byteCame_127 ?_
        refine lv_icmp_ge (tgt := 132) hx hb dX1_byteCame_128 (by decide) (fun c35 => ?_) (fun c35 => ?_)
        · replace hw := hw.1 c35
          refine lv_aload_n hx hb dX1_byteCame_132 rfl (lv_at hl 0 rfl) ?_
          refine lv_aload_n hx hb dX1_byteCame_133 rfl (lv_at hl 0 rfl) ?_
          refine x_get (ci := 0) (Cn := RX1) (T := TX1) (N := 27) (v := .ref (ad 6)) C (hR.rdX 0 rfl) rfl in_X1 6 (by decide) q399 (fun _ h9 => h9) rfl dX1_byteCame_134 ?_
          refine lv_iconst (v := 1) hx hb dX1_byteCame_137 (by decide) ?_
          refine x_bald (n := 204) (f := upd (M 6) (F 7).toNatClampNeg (vp_nar .byte p1.toInt8.toInt32)) C (hR.rdX 3 rfl) (by unfold vp_in; decide) dX1_byteCame_138 ?_
          refine lv_sipush (v := 255) hx hb dX1_byteCame_139 (by decide) ?_
          refine lv_iand hx hb dX1_byteCame_142 ?_
          refine x_putX (ci := 0) (Cn := RX1) (T := TX1) (N := 27) (v := .int (((upd (M 6) (F 7).toNatClampNeg (vp_nar .byte p1.toInt8.toInt32)) ((1 : Int32).toNatClampNeg)) &&& 255)) C hR hS 0 rfl rfl in_X1 tyX1_ok nmX1 9 (by decide) q402 (fun _ h9 => h9) rfl rfl rfl (Nat.le_of_ble_eq_true rfl) (sC_f9 ..) dX1_byteCame_143 (fun H locs hR hS => ?_)
          refine lv_aload_n hx hb dX1_byteCame_146 rfl (lv_at hl 0 rfl) ?_
          refine lv_aload_n hx hb dX1_byteCame_147 rfl (lv_at hl 0 rfl) ?_
          refine x_get (ci := 0) (Cn := RX1) (T := TX1) (N := 27) (v := .ref (ad 6)) C (hR.rdX 0 rfl) rfl in_X1 6 (by decide) q399 (fun _ h9 => h9) rfl dX1_byteCame_148 ?_
          refine lv_iconst (v := 2) hx hb dX1_byteCame_151 (by decide) ?_
          refine x_bald (n := 204) (f := upd (M 6) (F 7).toNatClampNeg (vp_nar .byte p1.toInt8.toInt32)) C (hR.rdX 3 rfl) (by unfold vp_in; decide) dX1_byteCame_152 ?_
          refine lv_sipush (v := 255) hx hb dX1_byteCame_153 (by decide) ?_
          refine lv_iand hx hb dX1_byteCame_156 ?_
          refine x_putX (ci := 0) (Cn := RX1) (T := TX1) (N := 27) (v := .int (((upd (M 6) (F 7).toNatClampNeg (vp_nar .byte p1.toInt8.toInt32)) ((2 : Int32).toNatClampNeg)) &&& 255)) C hR hS 0 rfl rfl in_X1 tyX1_ok nmX1 10 (by decide) q403 (fun _ h9 => h9) rfl rfl rfl (Nat.le_of_ble_eq_true rfl) (sC_f10 ..) dX1_byteCame_157 (fun H locs hR hS => ?_)
          refine lv_aload_n hx hb dX1_byteCame_160 rfl (lv_at hl 0 rfl) ?_
          refine lv_aload_n hx hb dX1_byteCame_161 rfl (lv_at hl 0 rfl) ?_
          refine x_get (ci := 0) (Cn := RX1) (T := TX1) (N := 27) (v := .ref (ad 6)) C (hR.rdX 0 rfl) rfl in_X1 6 (by decide) q399 (fun _ h9 => h9) rfl dX1_byteCame_162 ?_
          refine lv_iconst (v := 3) hx hb dX1_byteCame_165 (by decide) ?_
          refine x_bald (n := 204) (f := upd (M 6) (F 7).toNatClampNeg (vp_nar .byte p1.toInt8.toInt32)) C (hR.rdX 3 rfl) (by unfold vp_in; decide) dX1_byteCame_166 ?_
          refine lv_sipush (v := 255) hx hb dX1_byteCame_167 (by decide) ?_
          refine lv_iand hx hb dX1_byteCame_170 ?_
          refine x_putX (ci := 0) (Cn := RX1) (T := TX1) (N := 27) (v := .int (((upd (M 6) (F 7).toNatClampNeg (vp_nar .byte p1.toInt8.toInt32)) ((3 : Int32).toNatClampNeg)) &&& 255)) C hR hS 0 rfl rfl in_X1 tyX1_ok nmX1 11 (by decide) q404 (fun _ h9 => h9) rfl rfl rfl (Nat.le_of_ble_eq_true rfl) (sC_f11 ..) dX1_byteCame_171 (fun H locs hR hS => ?_)
          refine lv_aload_n hx hb dX1_byteCame_174 rfl (lv_at hl 0 rfl) ?_
          refine lv_iconst (v := 0) hx hb dX1_byteCame_175 (by decide) ?_
          refine x_putX (ci := 0) (Cn := RX1) (T := TX1) (N := 27) (v := .int 0) C hR hS 0 rfl rfl in_X1 tyX1_ok nmX1 7 (by decide) q400 (fun _ h9 => h9) rfl rfl rfl (Nat.le_of_ble_eq_true rfl) (sC_f7 ..) dX1_byteCame_176 (fun H locs hR hS => ?_)
          refine lv_aload_n hx hb dX1_byteCame_179 rfl (lv_at hl 0 rfl) ?_
          obtain ⟨ca36, cb37, mc38, ms39, hca36, hcb37, hw⟩ := hw
          refine x_callv (x_runVW (n := 0) (As := []) C hR hS (kX1_whole l D N0 gp ad XF (upd (upd (upd (upd (upd (upd F 7 ((F 7) + 1)) 12 (((upd (M 6) (F 7).toNatClampNeg (vp_nar .byte p1.toInt8.toInt32)) ((0 : Int32).toNatClampNeg)) &&& 255)) 9 (((upd (M 6) (F 7).toNatClampNeg (vp_nar .byte p1.toInt8.toInt32)) ((1 : Int32).toNatClampNeg)) &&& 255)) 10 (((upd (M 6) (F 7).toNatClampNeg (vp_nar .byte p1.toInt8.toInt32)) ((2 : Int32).toNatClampNeg)) &&& 255)) 11 (((upd (M 6) (F 7).toNatClampNeg (vp_nar .byte p1.toInt8.toInt32)) ((3 : Int32).toNatClampNeg)) &&& 255)) 7 0) (va_up M 6 (upd (M 6) (F 7).toNatClampNeg (vp_nar .byte p1.toInt8.toInt32))) h ca36 cb37 _ hlt hw) (lw_VW q493 q495 qs8 q85 q496) rfl rfl (by decide +kernel) ⟨Nat.le_of_ble_eq_true rfl, Nat.le_of_ble_eq_true rfl⟩ (x_recv C (hR.rdX 0 rfl) rfl) rfl hl.1 rfl (Nat.le_of_ble_eq_true rfl) dX1_byteCame_180 ⟨x_bud hk hca36, x_bud hn hcb37⟩) hS (fun X1 h41 H locs hq hR hS => ?_)
          clear hw
          obtain ⟨F40, M40, e1, hw⟩ := hq
          rw [e1] at hR
          have hk := x_budN hk hca36
          have hn := x_budN hn hcb37
          exact x_endv C hR hS ⟨rfl, ⟨_, _, rfl, hw⟩⟩ (x_le hk) (x_le hn) dX1_byteCame_183
        · replace hw := hw.2 c35
          exact x_endv C hR hS ⟨rfl, ⟨_, _, rfl, hw⟩⟩ (x_le hk) (x_le hn) dX1_byteCame_131
      · replace hw := hw.2 c34
        refine lv_aload_n hx hb dX1_byteCame_107 rfl (lv_at hl 0 rfl) ?_
        refine lv_bipush (v := 6) hx hb dX1_byteCame_108 (by decide) ?_
        refine x_putX (ci := 0) (Cn := RX1) (T := TX1) (N := 27) (v := .int 6) C hR hS 0 rfl rfl in_X1 tyX1_ok nmX1 20 (by decide) q413 (fun _ h9 => h9) rfl rfl rfl (Nat.le_of_ble_eq_true rfl) (sC_f20 ..) dX1_byteCame_110 (fun H locs hR hS => ?_)
        refine lv_aload_n hx hb dX1_byteCame_113 rfl (lv_at hl 0 rfl) ?_
        refine x_callv0 (x_runV (n := 0) (As := []) C hR hS (kX1_goAway l D N0 gp ad XF (upd (upd (upd F 7 ((F 7) + 1)) 12 (((upd (M 6) (F 7).toNatClampNeg (vp_nar .byte p1.toInt8.toInt32)) ((0 : Int32).toNatClampNeg)) &&& 255)) 20 6) (va_up M 6 (upd (M 6) (F 7).toNatClampNeg (vp_nar .byte p1.toInt8.toInt32))) h _ hw) (lw_V q489 q491 qs7 q85 q492) rfl rfl (by decide +kernel) ⟨Nat.le_of_ble_eq_true rfl, Nat.le_of_ble_eq_true rfl⟩ (x_recv C (hR.rdX 0 rfl) rfl) rfl hl.1 rfl (Nat.le_of_ble_eq_true rfl) dX1_byteCame_114 ⟨x_bud0 hk, x_bud0 hn⟩) hS (fun X1 h43 H locs hq hR hS => ?_)
        clear hw
        obtain ⟨F42, M42, e1, hw⟩ := hq
        rw [e1] at hR
        exact x_endv C hR hS ⟨rfl, ⟨_, _, rfl, hw⟩⟩ (x_le hk) (x_le hn) dX1_byteCame_117
    · replace hw := hw.2 c33
      exact x_endv C hR hS ⟨rfl, ⟨_, _, rfl, hw⟩⟩ (x_le hk) (x_le hn) dX1_byteCame_82
  · replace hw := hw.2 c31
    refine lv_iload_n hx hb dX1_byteCame_11 rfl (lv_at hl 1 rfl) ?_
    refine x_gets C hS hG.2.2.1.2.1 q487 dX1_byteCame_12 ?_
    refine lv_aload_n hx hb dX1_byteCame_15 rfl (lv_at hl 0 rfl) ?_
    refine x_get (ci := 0) (Cn := RX1) (T := TX1) (N := 27) (v := .int (F 8)) C (hR.rdX 0 rfl) rfl in_X1 8 (by decide) q401 (fun _ h9 => h9) rfl dX1_byteCame_16 ?_
    obtain ⟨t44, n45, f46, he47, b48, hw⟩ := hw
    refine x_iald (n := n45) (f := f46) C (hR.rdH he47) b48 dX1_byteCame_19 ?_
    refine lv_icmp_ne (tgt := 27) hx hb dX1_byteCame_20 (by decide) (fun c49 => ?_) (fun c49 => ?_)
    · replace hw := hw.2 c49
      refine lv_iconst (v := 0) hx hb dX1_byteCame_27 (by decide) ?_
      exact kX1_byteCame_b28 C hlt hR hS hk hn (lv_sub hl [0] rfl) hw
    · replace hw := hw.1 c49
      refine lv_iconst (v := 1) hx hb dX1_byteCame_23 (by decide) ?_
      refine lv_goto (tgt := 28) hx hb dX1_byteCame_24 (by decide) ?_
      exact kX1_byteCame_b28 C hlt hR hS hk hn (lv_sub hl [0] rfl) hw
/-- PageServer.feed(II)Z -/
abbrev rmX1_feed (mc0 ms0 : Nat) : Room := { frames := 16, cells := mc0, slots := ms0, locals := 371 }
section
variable {p : Program} {l : Launch} {e : Env} {s : State} {m : MethodId} {args : Array Value} {below : List Frame} {meth : Method} {c : Code} {D : va_G} {N0 : Nat} {gp : Nat → Nat} {ad : Nat → Nat} {XF : x_X} {mc0 ms0 : Nat}
def wX1_feed_b19 (post : Int32 → (Nat → Int32) → (Nat → Nat → Int32) → x_H → Prop) (gp : Nat → Nat) (ad : Nat → Nat) (p1 : Int32) (p2 : Int32) (F : (Nat → Int32)) (M : (Nat → Nat → Int32)) (h : x_H) (mc : Nat) (ms : Nat) : Prop :=
  post 0 F M h
theorem kX1_feed_b19 {post : Int32 → (Nat → Int32) → (Nat → Nat → Int32) → x_H → Prop} {p1 : Int32} {p2 : Int32} (C : x_C p s m args meth c cX1_feed 4 (some .boolean) RX1 D N0 gp) (hlt : l.stackTraces = false) {F : (Nat → Int32)} {M : (Nat → Nat → Int32)} {h : x_H} {mc : Nat} {ms : Nat} {k n : Nat} {H : Heap} {locs : List Loc} {ls : Array Slot} (hR : x_R D s N0 (fixC ad F M ++ XF) h H) (hS : va_S (x_A N0) s.heap H locs) (hk : k + mc ≤ mc0) (hn : n + ms ≤ ms0) (hl : lv_has ls 4 []) (hw : wX1_feed_b19 post gp ad p1 p2 F M h mc ms) : W p l e (rmX1_feed mc0 ms0) s m args below meth c H locs k n (MQ below (x_Qc D N0 (x_Vi (qCi ad XF post))) args s mc0 ms0 (x_A N0)) (F0 m 19 ls []) := by
  obtain ⟨⟨hx, hb, hml, hown, hts⟩, hr, hlocks, hG, hN⟩ := id C
  unfold wX1_feed_b19 at hw
  refine lv_iconst (v := 0) hx hb dX1_feed_19 (by decide) ?_
  exact x_endz C hR hS rfl ⟨_, rfl, ⟨_, _, rfl, hw⟩⟩ (x_le hk) (x_le hn) dX1_feed_20
def wX1_feed_b56 (post : Int32 → (Nat → Int32) → (Nat → Nat → Int32) → x_H → Prop) (gp : Nat → Nat) (ad : Nat → Nat) (p1 : Int32) (p2 : Int32) (F : (Nat → Int32)) (M : (Nat → Nat → Int32)) (h : x_H) (mc : Nat) (ms : Nat) : Prop :=
  post 1 F M h
theorem kX1_feed_b56 {post : Int32 → (Nat → Int32) → (Nat → Nat → Int32) → x_H → Prop} {p1 : Int32} {p2 : Int32} (C : x_C p s m args meth c cX1_feed 4 (some .boolean) RX1 D N0 gp) (hlt : l.stackTraces = false) {F : (Nat → Int32)} {M : (Nat → Nat → Int32)} {h : x_H} {mc : Nat} {ms : Nat} {k n : Nat} {H : Heap} {locs : List Loc} {ls : Array Slot} (hR : x_R D s N0 (fixC ad F M ++ XF) h H) (hS : va_S (x_A N0) s.heap H locs) (hk : k + mc ≤ mc0) (hn : n + ms ≤ ms0) (hl : lv_has ls 4 []) (hw : wX1_feed_b56 post gp ad p1 p2 F M h mc ms) : W p l e (rmX1_feed mc0 ms0) s m args below meth c H locs k n (MQ below (x_Qc D N0 (x_Vi (qCi ad XF post))) args s mc0 ms0 (x_A N0)) (F0 m 56 ls []) := by
  obtain ⟨⟨hx, hb, hml, hown, hts⟩, hr, hlocks, hG, hN⟩ := id C
  unfold wX1_feed_b56 at hw
  refine lv_iconst (v := 1) hx hb dX1_feed_56 (by decide) ?_
  exact x_endz C hR hS rfl ⟨_, rfl, ⟨_, _, rfl, hw⟩⟩ (x_le hk) (x_le hn) dX1_feed_57
def tX1_feed_b25 (post : Int32 → (Nat → Int32) → (Nat → Nat → Int32) → x_H → Prop) (K25 : (Nat → Int32) → (Nat → Nat → Int32) → x_H → Nat → Nat → Int32 → Prop) (gp : Nat → Nat) (ad : Nat → Nat) (p1 : Int32) (p2 : Int32) (F : (Nat → Int32)) (M : (Nat → Nat → Int32)) (h : x_H) (mc : Nat) (ms : Nat) (x3 : Int32) : Prop :=
  (x3 < 0 → wX1_feed_b56 post gp ad p1 p2 F M h mc ms) ∧ (¬ x3 < 0 → ((F 19) = 0 → ∃ ca19 cb20 mc21 ms22 : Nat, ca19 + mc21 ≤ mc ∧ cb20 + ms22 ≤ ms ∧ wX1_byteCame (fun F23 M23 h24 => K25 F23 M23 h24 mc21 ms22 (x3 + (-1))) gp ad ((p1 >>> (((8 : Int32) * x3) &&& 31)) &&& 255) F M h ca19 cb20) ∧ (¬ (F 19) = 0 → wX1_feed_b56 post gp ad p1 p2 F M h mc ms))
def wX1_feed_b25 (post : Int32 → (Nat → Int32) → (Nat → Nat → Int32) → x_H → Prop) (gp : Nat → Nat) (ad : Nat → Nat) (p1 : Int32) (p2 : Int32) : Nat → (Nat → Int32) → (Nat → Nat → Int32) → x_H → Nat → Nat → Int32 → Prop
  | 0 => fun _ _ _ _ _ _ => False
  | n + 1 => fun F M h mc ms x3 => tX1_feed_b25 post (wX1_feed_b25 post gp ad p1 p2 n) gp ad p1 p2 F M h mc ms x3
theorem kX1_feed_b25 {post : Int32 → (Nat → Int32) → (Nat → Nat → Int32) → x_H → Prop} {p1 : Int32} {p2 : Int32} (C : x_C p s m args meth c cX1_feed 4 (some .boolean) RX1 D N0 gp) (hlt : l.stackTraces = false) : ∀ (nn : Nat) (F : (Nat → Int32)) (M : (Nat → Nat → Int32)) (h : x_H) (mc : Nat) (ms : Nat) (x3 : Int32) (k n : Nat) (H : Heap) (locs : List Loc) (ls : Array Slot), x_R D s N0 (fixC ad F M ++ XF) h H → va_S (x_A N0) s.heap H locs → k + mc ≤ mc0 → n + ms ≤ ms0 → lv_has ls 4 [(0, .ref (ad 1000)), (1, .int p1), (3, .int x3)] → wX1_feed_b25 post gp ad p1 p2 nn F M h mc ms x3 → W p l e (rmX1_feed mc0 ms0) s m args below meth c H locs k n (MQ below (x_Qc D N0 (x_Vi (qCi ad XF post))) args s mc0 ms0 (x_A N0)) (F0 m 25 ls []) := by
  obtain ⟨⟨hx, hb, hml, hown, hts⟩, hr, hlocks, hG, hN⟩ := id C
  intro nn
  induction nn with
  | zero =>
    intro F M h mc ms x3 k n H locs ls hR hS hk hn hl hw
    exact False.elim hw
  | succ nn ih =>
    intro F M h mc ms x3 k n H locs ls hR hS hk hn hl hw
    have hK25 := ih
    replace hw : tX1_feed_b25 post (wX1_feed_b25 post gp ad p1 p2 nn) gp ad p1 p2 F M h mc ms x3 := hw
    unfold tX1_feed_b25 at hw
    refine lv_iload_n hx hb dX1_feed_25 rfl (lv_at hl 2 rfl) ?_
    refine lv_if_lt (tgt := 56) hx hb dX1_feed_26 (by decide) (fun c17 => ?_) (fun c17 => ?_)
    · replace hw := hw.1 c17
      exact kX1_feed_b56 C hlt hR hS hk hn (lv_sub hl [] rfl) hw
    · replace hw := hw.2 c17
      refine lv_aload_n hx hb dX1_feed_29 rfl (lv_at hl 0 rfl) ?_
      refine x_get (ci := 0) (Cn := RX1) (T := TX1) (N := 27) (v := .int (F 19)) C (hR.rdX 0 rfl) rfl in_X1 19 (by decide) q412 (fun _ h9 => h9) rfl dX1_feed_30 ?_
      refine lv_if_ne (tgt := 56) hx hb dX1_feed_33 (by decide) (fun c18 => ?_) (fun c18 => ?_)
      · replace hw := hw.2 c18
        exact kX1_feed_b56 C hlt hR hS hk hn (lv_sub hl [] rfl) hw
      · replace hw := hw.1 c18
        refine lv_aload_n hx hb dX1_feed_36 rfl (lv_at hl 0 rfl) ?_
        refine lv_iload_n hx hb dX1_feed_37 rfl (lv_at hl 1 rfl) ?_
        refine lv_bipush (v := 8) hx hb dX1_feed_38 (by decide) ?_
        refine lv_iload_n hx hb dX1_feed_40 rfl (lv_at hl 2 rfl) ?_
        refine lv_imul hx hb dX1_feed_41 ?_
        refine lv_ishr hx hb dX1_feed_42 ?_
        refine lv_sipush (v := 255) hx hb dX1_feed_43 (by decide) ?_
        refine lv_iand hx hb dX1_feed_46 ?_
        obtain ⟨ca19, cb20, mc21, ms22, hca19, hcb20, hw⟩ := hw
        refine x_callv (x_runV (n := 1) (As := [.int ((p1 >>> (((8 : Int32) * x3) &&& 31)) &&& 255)]) C hR hS (kX1_byteCame l D N0 gp ad XF ((p1 >>> (((8 : Int32) * x3) &&& 31)) &&& 255) F M h ca19 cb20 _ hlt hw) (lw_V q483 q485 qs6 q85 q486) rfl rfl (by decide +kernel) ⟨Nat.le_of_ble_eq_true rfl, Nat.le_of_ble_eq_true rfl⟩ (x_recv C (hR.rdX 0 rfl) rfl) rfl hl.1 rfl (Nat.le_of_ble_eq_true rfl) dX1_feed_47 ⟨x_bud hk hca19, x_bud hn hcb20⟩) hS (fun X1 h24 H locs hq hR hS => ?_)
        clear hw
        obtain ⟨F23, M23, e1, hw⟩ := hq
        rw [e1] at hR
        have hk := x_budN hk hca19
        have hn := x_budN hn hcb20
        refine lv_iinc (v := x3 + (-1)) (lv' := [(3, .int (x3 + (-1))), (0, .ref (ad 1000)), (1, .int p1)]) hx hb dX1_feed_50 hl (k := 2) rfl (x_inc (-1) (-1) (by decide)) (by decide) rfl (fun ls hl => ?_)
        refine lv_goto (tgt := 25) hx hb dX1_feed_53 (by decide) ?_
        exact hK25 _ _ _ _ _ _ _ _ _ _ _ hR hS hk hn (lv_sub hl [1, 2, 0] rfl) hw
end
def wX1_feed (post : Int32 → (Nat → Int32) → (Nat → Nat → Int32) → x_H → Prop) (gp : Nat → Nat) (ad : Nat → Nat) (p1 : Int32) (p2 : Int32) (F : (Nat → Int32)) (M : (Nat → Nat → Int32)) (h : x_H) (mc : Nat) (ms : Nat) : Prop :=
  wX1_outside (fun r13 => (r13 = 0 → ((F 26) ≤ 300 → ∃ n16 : Nat, wX1_feed_b25 post gp ad p1 p2 n16 F M h mc ms (p2 - 1)) ∧ (¬ (F 26) ≤ 300 → wX1_feed_b19 post gp ad p1 p2 F M h mc ms)) ∧ (¬ r13 = 0 → wX1_feed_b19 post gp ad p1 p2 F M h mc ms)) p2 1 4
theorem kX1_feed (l : Launch) (D : va_G) (N0 : Nat) (gp : Nat → Nat) (ad : Nat → Nat) (XF : x_X) (p1 : Int32) (p2 : Int32) (F : (Nat → Int32)) (M : (Nat → Nat → Int32)) (h : x_H) (mc : Nat) (ms : Nat) (post : Int32 → (Nat → Int32) → (Nat → Nat → Int32) → x_H → Prop) (hlt : l.stackTraces = false) (hw : wX1_feed post gp ad p1 p2 F M h mc ms) : Met l yX1_feed (ws_ yX1_feed cX1_feed 4 (some .boolean)) (rmX1_feed mc ms) (x_Pc D N0 gp (fixC ad F M ++ XF) h [.ref (ad 1000), .int p1, .int p2]) (x_Qc D N0 (x_Vi (qCi ad XF post))) mc ms (x_A N0) := by
  refine x_start (lv := [(0, .ref (ad 1000)), (1, .int p1), (2, .int p2)]) (by decide) rfl (Nat.le_of_ble_eq_true rfl) rfl ?_
  intro p e s m below meth c C hR ls hl
  have hS : va_S (x_A N0) s.heap s.heap [] := va_S.rf
  obtain ⟨⟨hx, hb, hml, hown, hts⟩, hr, hlocks, hG, hN⟩ := id C
  unfold wX1_feed at hw
  have hk : 0 + mc ≤ mc := Nat.le_of_eq (Nat.zero_add _)
  have hn : 0 + ms ≤ ms := Nat.le_of_eq (Nat.zero_add _)
  refine lv_iload_n hx hb dX1_feed_0 rfl (lv_at hl 2 rfl) ?_
  refine lv_iconst (v := 1) hx hb dX1_feed_1 (by decide) ?_
  refine lv_iconst (v := 4) hx hb dX1_feed_2 (by decide) ?_
  refine x_calli0 (x_runS (n := 3) (As := [.int p2, .int 1, .int 4]) C hR hS (kX1_outside l D N0 gp _ _ p2 1 4 _ hw) (lw_S q480 q481 q85 q482) rfl rfl (by decide +kernel) ⟨Nat.le_of_ble_eq_true rfl, Nat.le_of_ble_eq_true rfl⟩ rfl hl.1 rfl (Nat.le_of_ble_eq_true rfl) dX1_feed_3 ⟨x_bud0 hk, x_bud0 hn⟩) hS (fun r13 X1 h1 H locs hq hR hS => ?_)
  clear hw
  obtain ⟨e1, e2, hw⟩ := hq
  rw [e1, e2] at hR
  refine lv_if_ne (tgt := 19) hx hb dX1_feed_6 (by decide) (fun c14 => ?_) (fun c14 => ?_)
  · replace hw := hw.2 c14
    exact kX1_feed_b19 C hlt hR hS hk hn (lv_sub hl [] rfl) hw
  · replace hw := hw.1 c14
    refine lv_aload_n hx hb dX1_feed_9 rfl (lv_at hl 0 rfl) ?_
    refine x_get (ci := 0) (Cn := RX1) (T := TX1) (N := 27) (v := .int (F 26)) C (hR.rdX 0 rfl) rfl in_X1 26 (by decide) q419 (fun _ h9 => h9) rfl dX1_feed_10 ?_
    refine lv_sipush (v := 300) hx hb dX1_feed_13 (by decide) ?_
    refine lv_icmp_le (tgt := 21) hx hb dX1_feed_16 (by decide) (fun c15 => ?_) (fun c15 => ?_)
    · replace hw := hw.1 c15
      refine lv_iload_n hx hb dX1_feed_21 rfl (lv_at hl 2 rfl) ?_
      refine lv_iconst (v := 1) hx hb dX1_feed_22 (by decide) ?_
      refine lv_isub hx hb dX1_feed_23 ?_
      refine lv_istore_n (lv' := [(3, .int (p2 - 1)), (0, .ref (ad 1000)), (1, .int p1), (2, .int p2)]) hx hb dX1_feed_24 rfl hl (by decide) rfl (fun ls hl => ?_)
      obtain ⟨n16, hw⟩ := hw
      exact kX1_feed_b25 C hlt n16 _ _ _ _ _ _ _ _ _ _ _ hR hS hk hn (lv_sub hl [1, 2, 0] rfl) hw
    · replace hw := hw.2 c15
      exact kX1_feed_b19 C hlt hR hS hk hn (lv_sub hl [] rfl) hw
/-- PageServer.waiting()I -/
abbrev rmX1_waiting : Room := { frames := 0, cells := 0, slots := 0, locals := 0 }
section
variable {p : Program} {l : Launch} {e : Env} {s : State} {m : MethodId} {args : Array Value} {below : List Frame} {meth : Method} {c : Code} {D : va_G} {N0 : Nat} {gp : Nat → Nat} {ad : Nat → Nat} {XF : x_X}
end
def wX1_waiting (post : Int32 → Prop) (ad : Nat → Nat) (F : (Nat → Int32)) (M : (Nat → Nat → Int32)) (h : x_H) : Prop :=
  post (F 26) 
theorem kX1_waiting (l : Launch) (D : va_G) (N0 : Nat) (gp : Nat → Nat) (ad : Nat → Nat) (XF : x_X) (F : (Nat → Int32)) (M : (Nat → Nat → Int32)) (h : x_H) (post : Int32 → Prop) (hw : wX1_waiting post ad F M h ) : Met l yX1_waiting (ws_ yX1_waiting cX1_waiting 1 (some .int)) rmX1_waiting (x_Pc D N0 gp (fixC ad F M ++ XF) h [.ref (ad 1000)]) (x_Qc D N0 (x_Vi (qPi (fixC ad F M ++ XF) h post))) 0 0 (x_A N0) := by
  refine x_start (lv := [(0, .ref (ad 1000))]) (by decide) rfl (Nat.le_of_ble_eq_true rfl) rfl ?_
  intro p e s m below meth c C hR ls hl
  have hS : va_S (x_A N0) s.heap s.heap [] := va_S.rf
  obtain ⟨⟨hx, hb, hml, hown, hts⟩, hr, hlocks, hG, hN⟩ := id C
  unfold wX1_waiting at hw
  refine lv_aload_n hx hb dX1_waiting_0 rfl (lv_at hl 0 rfl) ?_
  refine x_get (ci := 0) (Cn := RX1) (T := TX1) (N := 27) (v := .int (F 26)) C (hR.rdX 0 rfl) rfl in_X1 26 (by decide) q419 (fun _ h9 => h9) rfl dX1_waiting_1 ?_
  exact x_endi C hR hS ⟨_, rfl, ⟨rfl, rfl, hw⟩⟩ (Nat.le_refl _) (Nat.le_refl _) dX1_waiting_4
/-- PageServer.take(I)V -/
abbrev rmX1_take : Room := { frames := 1, cells := 0, slots := 0, locals := 40 }
section
variable {p : Program} {l : Launch} {e : Env} {s : State} {m : MethodId} {args : Array Value} {below : List Frame} {meth : Method} {c : Code} {D : va_G} {N0 : Nat} {gp : Nat → Nat} {ad : Nat → Nat} {XF : x_X}
def wX1_take_b48 (post : (Nat → Int32) → (Nat → Nat → Int32) → x_H → Prop) (ad : Nat → Nat) (p1 : Int32) (F : (Nat → Int32)) (M : (Nat → Nat → Int32)) (h : x_H) (x2 : Int32) : Prop :=
  post (upd F 26 ((F 26) - x2)) M h
theorem kX1_take_b48 {post : (Nat → Int32) → (Nat → Nat → Int32) → x_H → Prop} {p1 : Int32} (C : x_C p s m args meth c cX1_take 4 none RX1 D N0 gp) {F : (Nat → Int32)} {M : (Nat → Nat → Int32)} {h : x_H} {x2 : Int32} {H : Heap} {locs : List Loc} {ls : Array Slot} (hR : x_R D s N0 (fixC ad F M ++ XF) h H) (hS : va_S (x_A N0) s.heap H locs) (hl : lv_has ls 4 [(0, .ref (ad 1000)), (2, .int x2)]) (hw : wX1_take_b48 post ad p1 F M h x2) : W p l e rmX1_take s m args below meth c H locs 0 0 (MQ below (x_Qc D N0 (x_Vv (qCv ad XF post))) args s 0 0 (x_A N0)) (F0 m 48 ls []) := by
  obtain ⟨⟨hx, hb, hml, hown, hts⟩, hr, hlocks, hG, hN⟩ := id C
  unfold wX1_take_b48 at hw
  refine lv_aload_n hx hb dX1_take_48 rfl (lv_at hl 0 rfl) ?_
  refine lv_dup hx hb dX1_take_49 rfl ?_
  refine x_get (ci := 0) (Cn := RX1) (T := TX1) (N := 27) (v := .int (F 26)) C (hR.rdX 0 rfl) rfl in_X1 26 (by decide) q419 (fun _ h9 => h9) rfl dX1_take_50 ?_
  refine lv_iload_n hx hb dX1_take_53 rfl (lv_at hl 1 rfl) ?_
  refine lv_isub hx hb dX1_take_54 ?_
  refine x_putX (ci := 0) (Cn := RX1) (T := TX1) (N := 27) (v := .int ((F 26) - x2)) C hR hS 0 rfl rfl in_X1 tyX1_ok nmX1 26 (by decide) q419 (fun _ h9 => h9) rfl rfl rfl (Nat.le_of_ble_eq_true rfl) (sC_f26 ..) dX1_take_55 (fun H locs hR hS => ?_)
  exact x_endv C hR hS ⟨rfl, ⟨_, _, rfl, hw⟩⟩ (Nat.le_refl _) (Nat.le_refl _) dX1_take_58
def tX1_take_b20 (post : (Nat → Int32) → (Nat → Nat → Int32) → x_H → Prop) (K20 : (Nat → Int32) → (Nat → Nat → Int32) → x_H → Int32 → Int32 → Prop) (ad : Nat → Nat) (p1 : Int32) (F : (Nat → Int32)) (M : (Nat → Nat → Int32)) (h : x_H) (x2 : Int32) (x3 : Int32) : Prop :=
  ((F 26) ≤ x3 → wX1_take_b48 post ad p1 F M h x2) ∧ (¬ (F 26) ≤ x3 → vp_in x3 1200 ∧ vp_in (x3 - x2) 1200 ∧ K20 F (va_up M 25 (upd (M 25) (x3 - x2).toNatClampNeg (vp_nar .byte ((M 25) x3.toNatClampNeg)))) h x2 (x3 + 1))
def wX1_take_b20 (post : (Nat → Int32) → (Nat → Nat → Int32) → x_H → Prop) (ad : Nat → Nat) (p1 : Int32) : Nat → (Nat → Int32) → (Nat → Nat → Int32) → x_H → Int32 → Int32 → Prop
  | 0 => fun _ _ _ _ _ => False
  | n + 1 => fun F M h x2 x3 => tX1_take_b20 post (wX1_take_b20 post ad p1 n) ad p1 F M h x2 x3
theorem kX1_take_b20 {post : (Nat → Int32) → (Nat → Nat → Int32) → x_H → Prop} {p1 : Int32} (C : x_C p s m args meth c cX1_take 4 none RX1 D N0 gp) : ∀ (nn : Nat) (F : (Nat → Int32)) (M : (Nat → Nat → Int32)) (h : x_H) (x2 : Int32) (x3 : Int32) (H : Heap) (locs : List Loc) (ls : Array Slot), x_R D s N0 (fixC ad F M ++ XF) h H → va_S (x_A N0) s.heap H locs → lv_has ls 4 [(0, .ref (ad 1000)), (2, .int x2), (3, .int x3)] → wX1_take_b20 post ad p1 nn F M h x2 x3 → W p l e rmX1_take s m args below meth c H locs 0 0 (MQ below (x_Qc D N0 (x_Vv (qCv ad XF post))) args s 0 0 (x_A N0)) (F0 m 20 ls []) := by
  obtain ⟨⟨hx, hb, hml, hown, hts⟩, hr, hlocks, hG, hN⟩ := id C
  intro nn
  induction nn with
  | zero =>
    intro F M h x2 x3 H locs ls hR hS hl hw
    exact False.elim hw
  | succ nn ih =>
    intro F M h x2 x3 H locs ls hR hS hl hw
    have hK20 := ih
    replace hw : tX1_take_b20 post (wX1_take_b20 post ad p1 nn) ad p1 F M h x2 x3 := hw
    unfold tX1_take_b20 at hw
    refine lv_iload_n hx hb dX1_take_20 rfl (lv_at hl 2 rfl) ?_
    refine lv_aload_n hx hb dX1_take_21 rfl (lv_at hl 0 rfl) ?_
    refine x_get (ci := 0) (Cn := RX1) (T := TX1) (N := 27) (v := .int (F 26)) C (hR.rdX 0 rfl) rfl in_X1 26 (by decide) q419 (fun _ h9 => h9) rfl dX1_take_22 ?_
    refine lv_icmp_ge (tgt := 48) hx hb dX1_take_25 (by decide) (fun c8 => ?_) (fun c8 => ?_)
    · replace hw := hw.1 c8
      exact kX1_take_b48 C hR hS (lv_sub hl [0, 1] rfl) hw
    · replace hw := hw.2 c8
      refine lv_aload_n hx hb dX1_take_28 rfl (lv_at hl 0 rfl) ?_
      refine x_get (ci := 0) (Cn := RX1) (T := TX1) (N := 27) (v := .ref (ad 25)) C (hR.rdX 0 rfl) rfl in_X1 25 (by decide) q418 (fun _ h9 => h9) rfl dX1_take_29 ?_
      refine lv_iload_n hx hb dX1_take_32 rfl (lv_at hl 2 rfl) ?_
      refine lv_iload_n hx hb dX1_take_33 rfl (lv_at hl 1 rfl) ?_
      refine lv_isub hx hb dX1_take_34 ?_
      refine lv_aload_n hx hb dX1_take_35 rfl (lv_at hl 0 rfl) ?_
      refine x_get (ci := 0) (Cn := RX1) (T := TX1) (N := 27) (v := .ref (ad 25)) C (hR.rdX 0 rfl) rfl in_X1 25 (by decide) q418 (fun _ h9 => h9) rfl dX1_take_36 ?_
      refine lv_iload_n hx hb dX1_take_39 rfl (lv_at hl 2 rfl) ?_
      obtain ⟨b9, hw⟩ := hw
      refine x_bald (n := 1200) (f := (M 25)) C (hR.rdX 4 rfl) b9 dX1_take_40 ?_
      obtain ⟨b10, hw⟩ := hw
      refine x_bastX (n := 1200) (f := (M 25)) C hR hS 4 rfl b10 (sC_a25 ..) dX1_take_41 (fun H locs hR hS => ?_)
      refine lv_iinc (v := x3 + 1) (lv' := [(3, .int (x3 + 1)), (0, .ref (ad 1000)), (2, .int x2)]) hx hb dX1_take_42 hl (k := 2) rfl (x_inc 1 1 (by decide)) (by decide) rfl (fun ls hl => ?_)
      refine lv_goto (tgt := 20) hx hb dX1_take_45 (by decide) ?_
      exact hK20 _ _ _ _ _ _ _ _ hR hS (lv_sub hl [1, 2, 0] rfl) hw
def wX1_take_b17 (post : (Nat → Int32) → (Nat → Nat → Int32) → x_H → Prop) (ad : Nat → Nat) (p1 : Int32) (F : (Nat → Int32)) (M : (Nat → Nat → Int32)) (h : x_H) (s0 : Int32) : Prop :=
  ∃ n7 : Nat, wX1_take_b20 post ad p1 n7 F M h s0 s0
theorem kX1_take_b17 {post : (Nat → Int32) → (Nat → Nat → Int32) → x_H → Prop} {p1 : Int32} (C : x_C p s m args meth c cX1_take 4 none RX1 D N0 gp) {F : (Nat → Int32)} {M : (Nat → Nat → Int32)} {h : x_H} {s0 : Int32} {H : Heap} {locs : List Loc} {ls : Array Slot} (hR : x_R D s N0 (fixC ad F M ++ XF) h H) (hS : va_S (x_A N0) s.heap H locs) (hl : lv_has ls 4 [(0, .ref (ad 1000))]) (hw : wX1_take_b17 post ad p1 F M h s0) : W p l e rmX1_take s m args below meth c H locs 0 0 (MQ below (x_Qc D N0 (x_Vv (qCv ad XF post))) args s 0 0 (x_A N0)) (F0 m 17 ls [.int s0]) := by
  obtain ⟨⟨hx, hb, hml, hown, hts⟩, hr, hlocks, hG, hN⟩ := id C
  unfold wX1_take_b17 at hw
  refine lv_istore_n (lv' := [(2, .int s0), (0, .ref (ad 1000))]) hx hb dX1_take_17 rfl hl (by decide) rfl (fun ls hl => ?_)
  refine lv_iload_n hx hb dX1_take_18 rfl (lv_at hl 0 rfl) ?_
  refine lv_istore_n (lv' := [(3, .int s0), (2, .int s0), (0, .ref (ad 1000))]) hx hb dX1_take_19 rfl hl (by decide) rfl (fun ls hl => ?_)
  obtain ⟨n7, hw⟩ := hw
  exact kX1_take_b20 C n7 _ _ _ _ _ _ _ _ hR hS (lv_sub hl [2, 1, 0] rfl) hw
end
def wX1_take (post : (Nat → Int32) → (Nat → Nat → Int32) → x_H → Prop) (ad : Nat → Nat) (p1 : Int32) (F : (Nat → Int32)) (M : (Nat → Nat → Int32)) (h : x_H) : Prop :=
  ((1 : Int32) ≤ p1 → wX1_take_b17 post ad p1 F M h (if (F 26) < p1 then (F 26) else p1)) ∧ (¬ (1 : Int32) ≤ p1 → wX1_take_b17 post ad p1 F M h 0)
theorem kX1_take (l : Launch) (D : va_G) (N0 : Nat) (gp : Nat → Nat) (ad : Nat → Nat) (XF : x_X) (p1 : Int32) (F : (Nat → Int32)) (M : (Nat → Nat → Int32)) (h : x_H) (post : (Nat → Int32) → (Nat → Nat → Int32) → x_H → Prop) (hw : wX1_take post ad p1 F M h) : Met l yX1_take (ws_ yX1_take cX1_take 4 none) rmX1_take (x_Pc D N0 gp (fixC ad F M ++ XF) h [.ref (ad 1000), .int p1]) (x_Qc D N0 (x_Vv (qCv ad XF post))) 0 0 (x_A N0) := by
  refine x_start (lv := [(0, .ref (ad 1000)), (1, .int p1)]) (by decide) rfl (Nat.le_of_ble_eq_true rfl) rfl ?_
  intro p e s m below meth c C hR ls hl
  have hS : va_S (x_A N0) s.heap s.heap [] := va_S.rf
  obtain ⟨⟨hx, hb, hml, hown, hts⟩, hr, hlocks, hG, hN⟩ := id C
  unfold wX1_take at hw
  refine lv_iload_n hx hb dX1_take_0 rfl (lv_at hl 1 rfl) ?_
  refine lv_iconst (v := 1) hx hb dX1_take_1 (by decide) ?_
  refine lv_icmp_ge (tgt := 9) hx hb dX1_take_2 (by decide) (fun c6 => ?_) (fun c6 => ?_)
  · replace hw := hw.1 c6
    refine lv_iload_n hx hb dX1_take_9 rfl (lv_at hl 1 rfl) ?_
    refine lv_aload_n hx hb dX1_take_10 rfl (lv_at hl 0 rfl) ?_
    refine x_get (ci := 0) (Cn := RX1) (T := TX1) (N := 27) (v := .int (F 26)) C (hR.rdX 0 rfl) rfl in_X1 26 (by decide) q419 (fun _ h9 => h9) rfl dX1_take_11 ?_
    refine va_mmin hx hb (hml.trans hl.1.symm) hown (hts _ q1061) (hts _ q229) (hts _ q93) (hts _ q230) (Nat.le_of_ble_eq_true rfl) (Nat.le_of_ble_eq_true rfl) (Nat.le_refl _) (Nat.le_refl _) dX1_take_14 ?_
    exact kX1_take_b17 C hR hS (lv_sub hl [0] rfl) hw
  · replace hw := hw.2 c6
    refine lv_iconst (v := 0) hx hb dX1_take_5 (by decide) ?_
    refine lv_goto (tgt := 17) hx hb dX1_take_6 (by decide) ?_
    exact kX1_take_b17 C hR hS (lv_sub hl [0] rfl) hw
/-- PageServer.away()I -/
abbrev rmX1_away : Room := { frames := 0, cells := 0, slots := 0, locals := 0 }
section
variable {p : Program} {l : Launch} {e : Env} {s : State} {m : MethodId} {args : Array Value} {below : List Frame} {meth : Method} {c : Code} {D : va_G} {N0 : Nat} {gp : Nat → Nat} {ad : Nat → Nat} {XF : x_X}
end
def wX1_away (post : Int32 → Prop) (ad : Nat → Nat) (F : (Nat → Int32)) (M : (Nat → Nat → Int32)) (h : x_H) : Prop :=
  post (F 19) 
theorem kX1_away (l : Launch) (D : va_G) (N0 : Nat) (gp : Nat → Nat) (ad : Nat → Nat) (XF : x_X) (F : (Nat → Int32)) (M : (Nat → Nat → Int32)) (h : x_H) (post : Int32 → Prop) (hw : wX1_away post ad F M h ) : Met l yX1_away (ws_ yX1_away cX1_away 1 (some .int)) rmX1_away (x_Pc D N0 gp (fixC ad F M ++ XF) h [.ref (ad 1000)]) (x_Qc D N0 (x_Vi (qPi (fixC ad F M ++ XF) h post))) 0 0 (x_A N0) := by
  refine x_start (lv := [(0, .ref (ad 1000))]) (by decide) rfl (Nat.le_of_ble_eq_true rfl) rfl ?_
  intro p e s m below meth c C hR ls hl
  have hS : va_S (x_A N0) s.heap s.heap [] := va_S.rf
  obtain ⟨⟨hx, hb, hml, hown, hts⟩, hr, hlocks, hG, hN⟩ := id C
  unfold wX1_away at hw
  refine lv_aload_n hx hb dX1_away_0 rfl (lv_at hl 0 rfl) ?_
  refine x_get (ci := 0) (Cn := RX1) (T := TX1) (N := 27) (v := .int (F 19)) C (hR.rdX 0 rfl) rfl in_X1 19 (by decide) q412 (fun _ h9 => h9) rfl dX1_away_1 ?_
  exact x_endi C hR hS ⟨_, rfl, ⟨rfl, rfl, hw⟩⟩ (Nat.le_refl _) (Nat.le_refl _) dX1_away_4
/-- PageServer.about(I)I -/
abbrev rmX1_about : Room := { frames := 4, cells := 0, slots := 0, locals := 87 }
section
variable {p : Program} {l : Launch} {e : Env} {s : State} {m : MethodId} {args : Array Value} {below : List Frame} {meth : Method} {c : Code} {D : va_G} {N0 : Nat} {gp : Nat → Nat} {ad : Nat → Nat} {XF : x_X}
end
def wX1_about (post : Int32 → Prop) (ad : Nat → Nat) (p1 : Int32) (F : (Nat → Int32)) (M : (Nat → Nat → Int32)) (h : x_H) : Prop :=
  (p1 = 0 → post (F 18) ) ∧ (p1 = 1 → ∃ (t11 : Nat) (fs12 : List Value), h (ad 1) = some (t11, .inr (7, fs12)) ∧ wJ2_size (fun r10 => post r10 ) (ad 1) h) ∧ (p1 = 2 → post (F 22) ) ∧ (p1 = 3 → post (F 24) ) ∧ (p1 = 4 → post (F 102) ) ∧ (p1 = 5 → ∃ (t15 : Nat) (fs16 : List Value), h (ad 101) = some (t15, .inr (7, fs16)) ∧ wJ2_size (fun r14 => post r14 ) (ad 101) h) ∧ (p1 = 6 → wX2_taken (fun r18 => post r18 ) ad F M h) ∧ (p1 = 7 → post (F 202) ) ∧ (¬ p1 = 0 → ¬ p1 = 1 → ¬ p1 = 2 → ¬ p1 = 3 → ¬ p1 = 4 → ¬ p1 = 5 → ¬ p1 = 6 → ¬ p1 = 7 → post (-1) )
theorem kX1_about (l : Launch) (D : va_G) (N0 : Nat) (gp : Nat → Nat) (ad : Nat → Nat) (XF : x_X) (p1 : Int32) (F : (Nat → Int32)) (M : (Nat → Nat → Int32)) (h : x_H) (post : Int32 → Prop) (hw : wX1_about post ad p1 F M h ) : Met l yX1_about (ws_ yX1_about cX1_about 2 (some .int)) rmX1_about (x_Pc D N0 gp (fixC ad F M ++ XF) h [.ref (ad 1000), .int p1]) (x_Qc D N0 (x_Vi (qPi (fixC ad F M ++ XF) h post))) 0 0 (x_A N0) := by
  refine x_start (lv := [(0, .ref (ad 1000)), (1, .int p1)]) (by decide) rfl (Nat.le_of_ble_eq_true rfl) rfl ?_
  intro p e s m below meth c C hR ls hl
  have hS : va_S (x_A N0) s.heap s.heap [] := va_S.rf
  obtain ⟨⟨hx, hb, hml, hown, hts⟩, hr, hlocks, hG, hN⟩ := id C
  unfold wX1_about at hw
  refine lv_iload_n hx hb dX1_about_0 rfl (lv_at hl 1 rfl) ?_
  by_cases c1_0 : p1 = 0
  · replace hw := hw.1 c1_0
    refine lv_tableIn (tgt := 48) (off := 47) hx hb dX1_about_1 (by rw [c1_0]; decide) (by rw [c1_0]; decide) (by rw [c1_0]; decide) (by decide) ?_
    refine lv_aload_n hx hb dX1_about_48 rfl (lv_at hl 0 rfl) ?_
    refine x_get (ci := 0) (Cn := RX1) (T := TX1) (N := 27) (v := .int (F 18)) C (hR.rdX 0 rfl) rfl in_X1 18 (by decide) q411 (fun _ h9 => h9) rfl dX1_about_49 ?_
    exact x_endi C hR hS ⟨_, rfl, ⟨rfl, rfl, hw⟩⟩ (Nat.le_refl _) (Nat.le_refl _) dX1_about_52
  · skip
    by_cases c1_1 : p1 = 1
    · replace hw := hw.2.1 c1_1
      refine lv_tableIn (tgt := 53) (off := 52) hx hb dX1_about_1 (by rw [c1_1]; decide) (by rw [c1_1]; decide) (by rw [c1_1]; decide) (by decide) ?_
      refine lv_aload_n hx hb dX1_about_53 rfl (lv_at hl 0 rfl) ?_
      refine x_get (ci := 0) (Cn := RX1) (T := TX1) (N := 27) (v := .ref (ad 1)) C (hR.rdX 0 rfl) rfl in_X1 1 (by decide) q394 (fun _ h9 => h9) rfl dX1_about_54 ?_
      obtain ⟨t11, fs12, he13, hw⟩ := hw
      refine x_calli0 (x_runV (n := 0) (As := []) C hR hS (kJ2_size l D N0 gp _ (ad 1) h _ hw) (lw_V q358 q359 q360 q88 q361) rfl rfl (by decide +kernel) ⟨Nat.le_of_ble_eq_true rfl, Nat.le_of_ble_eq_true rfl⟩ (x_recv C (hR.rdH he13) rfl) rfl hl.1 rfl (Nat.le_of_ble_eq_true rfl) dX1_about_57 ⟨Nat.le_refl _, Nat.le_refl _⟩) hS (fun r10 X1 h1 H locs hq hR hS => ?_)
      clear hw
      obtain ⟨e1, e2, hw⟩ := hq
      rw [e1, e2] at hR
      exact x_endi C hR hS ⟨_, rfl, ⟨rfl, rfl, hw⟩⟩ (Nat.le_refl _) (Nat.le_refl _) dX1_about_60
    · skip
      by_cases c1_2 : p1 = 2
      · replace hw := hw.2.2.1 c1_2
        refine lv_tableIn (tgt := 61) (off := 60) hx hb dX1_about_1 (by rw [c1_2]; decide) (by rw [c1_2]; decide) (by rw [c1_2]; decide) (by decide) ?_
        refine lv_aload_n hx hb dX1_about_61 rfl (lv_at hl 0 rfl) ?_
        refine x_get (ci := 0) (Cn := RX1) (T := TX1) (N := 27) (v := .int (F 22)) C (hR.rdX 0 rfl) rfl in_X1 22 (by decide) q415 (fun _ h9 => h9) rfl dX1_about_62 ?_
        exact x_endi C hR hS ⟨_, rfl, ⟨rfl, rfl, hw⟩⟩ (Nat.le_refl _) (Nat.le_refl _) dX1_about_65
      · skip
        by_cases c1_3 : p1 = 3
        · replace hw := hw.2.2.2.1 c1_3
          refine lv_tableIn (tgt := 66) (off := 65) hx hb dX1_about_1 (by rw [c1_3]; decide) (by rw [c1_3]; decide) (by rw [c1_3]; decide) (by decide) ?_
          refine lv_aload_n hx hb dX1_about_66 rfl (lv_at hl 0 rfl) ?_
          refine x_get (ci := 0) (Cn := RX1) (T := TX1) (N := 27) (v := .int (F 24)) C (hR.rdX 0 rfl) rfl in_X1 24 (by decide) q417 (fun _ h9 => h9) rfl dX1_about_67 ?_
          exact x_endi C hR hS ⟨_, rfl, ⟨rfl, rfl, hw⟩⟩ (Nat.le_refl _) (Nat.le_refl _) dX1_about_70
        · skip
          by_cases c1_4 : p1 = 4
          · replace hw := hw.2.2.2.2.1 c1_4
            refine lv_tableIn (tgt := 71) (off := 70) hx hb dX1_about_1 (by rw [c1_4]; decide) (by rw [c1_4]; decide) (by rw [c1_4]; decide) (by decide) ?_
            refine lv_aload_n hx hb dX1_about_71 rfl (lv_at hl 0 rfl) ?_
            refine x_get (ci := 0) (Cn := RX1) (T := TX1) (N := 27) (v := .ref (ad 3)) C (hR.rdX 0 rfl) rfl in_X1 3 (by decide) q396 (fun _ h9 => h9) rfl dX1_about_72 ?_
            refine x_getN (ci := 1) (Cn := RX2) (T := TX2) (N := 3) (v := .int (F 102)) C (hR.rdX 1 rfl) rfl in_X2 2 (by decide) (x_nest C q249 rfl) (fun _ h9 => h9) rfl dX1_about_75 ?_
            exact x_endi C hR hS ⟨_, rfl, ⟨rfl, rfl, hw⟩⟩ (Nat.le_refl _) (Nat.le_refl _) dX1_about_78
          · skip
            by_cases c1_5 : p1 = 5
            · replace hw := hw.2.2.2.2.2.1 c1_5
              refine lv_tableIn (tgt := 79) (off := 78) hx hb dX1_about_1 (by rw [c1_5]; decide) (by rw [c1_5]; decide) (by rw [c1_5]; decide) (by decide) ?_
              refine lv_aload_n hx hb dX1_about_79 rfl (lv_at hl 0 rfl) ?_
              refine x_get (ci := 0) (Cn := RX1) (T := TX1) (N := 27) (v := .ref (ad 3)) C (hR.rdX 0 rfl) rfl in_X1 3 (by decide) q396 (fun _ h9 => h9) rfl dX1_about_80 ?_
              refine x_getN (ci := 1) (Cn := RX2) (T := TX2) (N := 3) (v := .ref (ad 101)) C (hR.rdX 1 rfl) rfl in_X2 1 (by decide) (x_nest C q247 rfl) (fun _ h9 => h9) rfl dX1_about_83 ?_
              obtain ⟨t15, fs16, he17, hw⟩ := hw
              refine x_calli0 (x_runV (n := 0) (As := []) C hR hS (kJ2_size l D N0 gp _ (ad 101) h _ hw) (lw_V q358 q359 q360 q88 q361) rfl rfl (by decide +kernel) ⟨Nat.le_of_ble_eq_true rfl, Nat.le_of_ble_eq_true rfl⟩ (x_recv C (hR.rdH he17) rfl) rfl hl.1 rfl (Nat.le_of_ble_eq_true rfl) dX1_about_86 ⟨Nat.le_refl _, Nat.le_refl _⟩) hS (fun r14 X1 h1 H locs hq hR hS => ?_)
              clear hw
              obtain ⟨e1, e2, hw⟩ := hq
              rw [e1, e2] at hR
              exact x_endi C hR hS ⟨_, rfl, ⟨rfl, rfl, hw⟩⟩ (Nat.le_refl _) (Nat.le_refl _) dX1_about_89
            · skip
              by_cases c1_6 : p1 = 6
              · replace hw := hw.2.2.2.2.2.2.1 c1_6
                refine lv_tableIn (tgt := 90) (off := 89) hx hb dX1_about_1 (by rw [c1_6]; decide) (by rw [c1_6]; decide) (by rw [c1_6]; decide) (by decide) ?_
                refine lv_aload_n hx hb dX1_about_90 rfl (lv_at hl 0 rfl) ?_
                refine x_get (ci := 0) (Cn := RX1) (T := TX1) (N := 27) (v := .ref (ad 3)) C (hR.rdX 0 rfl) rfl in_X1 3 (by decide) q396 (fun _ h9 => h9) rfl dX1_about_91 ?_
                refine x_calli0 (x_runV (n := 0) (As := []) C hR hS (kX2_taken l D N0 gp ad XF F M h _ hw) (lw_V q1078 q971 q972 q89 q973) rfl rfl (by decide +kernel) ⟨Nat.le_of_ble_eq_true rfl, Nat.le_of_ble_eq_true rfl⟩ (x_recv C (hR.rdX 1 rfl) rfl) rfl hl.1 rfl (Nat.le_of_ble_eq_true rfl) dX1_about_94 ⟨Nat.le_refl _, Nat.le_refl _⟩) hS (fun r18 X1 h1 H locs hq hR hS => ?_)
                clear hw
                obtain ⟨e1, e2, hw⟩ := hq
                rw [e1, e2] at hR
                exact x_endi C hR hS ⟨_, rfl, ⟨rfl, rfl, hw⟩⟩ (Nat.le_refl _) (Nat.le_refl _) dX1_about_97
              · skip
                by_cases c1_7 : p1 = 7
                · replace hw := hw.2.2.2.2.2.2.2.1 c1_7
                  refine lv_tableIn (tgt := 98) (off := 97) hx hb dX1_about_1 (by rw [c1_7]; decide) (by rw [c1_7]; decide) (by rw [c1_7]; decide) (by decide) ?_
                  refine lv_aload_n hx hb dX1_about_98 rfl (lv_at hl 0 rfl) ?_
                  refine x_get (ci := 0) (Cn := RX1) (T := TX1) (N := 27) (v := .ref (ad 4)) C (hR.rdX 0 rfl) rfl in_X1 4 (by decide) q397 (fun _ h9 => h9) rfl dX1_about_99 ?_
                  refine x_getN (ci := 3) (Cn := RX4) (T := TX4) (N := 5) (v := .int (F 202)) C (hR.rdX 2 rfl) rfl in_X4 2 (by decide) (x_nest C q299 rfl) (fun _ h9 => h9) rfl dX1_about_102 ?_
                  exact x_endi C hR hS ⟨_, rfl, ⟨rfl, rfl, hw⟩⟩ (Nat.le_refl _) (Nat.le_refl _) dX1_about_105
                · skip
                  replace hw := hw.2.2.2.2.2.2.2.2 c1_0 c1_1 c1_2 c1_3 c1_4 c1_5 c1_6 c1_7
                  have tc1_0 := lv_neT (a := 0) c1_0 (by decide)
                  have tc1_1 := lv_neT (a := 1) c1_1 (by decide)
                  have tc1_2 := lv_neT (a := 2) c1_2 (by decide)
                  have tc1_3 := lv_neT (a := 3) c1_3 (by decide)
                  have tc1_4 := lv_neT (a := 4) c1_4 (by decide)
                  have tc1_5 := lv_neT (a := 5) c1_5 (by decide)
                  have tc1_6 := lv_neT (a := 6) c1_6 (by decide)
                  have tc1_7 := lv_neT (a := 7) c1_7 (by decide)
                  refine lv_tableOut (tgt := 106) hx hb dX1_about_1 (by omega) (by decide) ?_
                  refine lv_iconst (v := -1) hx hb dX1_about_106 (by decide) ?_
                  exact x_endi C hR hS ⟨_, rfl, ⟨rfl, rfl, hw⟩⟩ (Nat.le_refl _) (Nat.le_refl _) dX1_about_107
/-- PageServer.isText(I)Z -/
abbrev rmX1_isText : Room := { frames := 2, cells := 0, slots := 0, locals := 42 }
section
variable {p : Program} {l : Launch} {e : Env} {s : State} {m : MethodId} {args : Array Value} {below : List Frame} {meth : Method} {c : Code} {D : va_G} {N0 : Nat} {gp : Nat → Nat} {X : x_X} {h : x_H}
def wX1_isText_b58 (post : Int32 → Prop) (K6 : Int32 → Int32 → Int32 → Prop) (p0 : Int32) (x1 : Int32) (x3 : Int32) (s0 : Int32) : Prop :=
  K6 x1 s0 (x3 + (-1))
theorem kX1_isText_b58 {post : Int32 → Prop} {K6 : Int32 → Int32 → Int32 → Prop} {p0 : Int32} (C : x_C p s m args meth c cX1_isText 5 (some .boolean) RX1 D N0 gp) (hK6 : ∀ (x1 : Int32) (x2 : Int32) (x3 : Int32) (H : Heap) (locs : List Loc) (ls : Array Slot), x_R D s N0 X h H → va_S (x_A N0) s.heap H locs → lv_has ls 5 [(0, .int p0), (1, .int x1), (2, .int x2), (3, .int x3)] → K6 x1 x2 x3 → W p l e rmX1_isText s m args below meth c H locs 0 0 (MQ below (x_Qc D N0 (x_Vi (qPi X h post))) args s 0 0 (x_A N0)) (F0 m 6 ls [])) {x1 : Int32} {x3 : Int32} {s0 : Int32} {H : Heap} {locs : List Loc} {ls : Array Slot} (hR : x_R D s N0 X h H) (hS : va_S (x_A N0) s.heap H locs) (hl : lv_has ls 5 [(0, .int p0), (1, .int x1), (3, .int x3)]) (hw : wX1_isText_b58 post K6 p0 x1 x3 s0) : W p l e rmX1_isText s m args below meth c H locs 0 0 (MQ below (x_Qc D N0 (x_Vi (qPi X h post))) args s 0 0 (x_A N0)) (F0 m 58 ls [.int s0]) := by
  obtain ⟨⟨hx, hb, hml, hown, hts⟩, hr, hlocks, hG, hN⟩ := id C
  unfold wX1_isText_b58 at hw
  refine lv_istore_n (lv' := [(2, .int s0), (0, .int p0), (1, .int x1), (3, .int x3)]) hx hb dX1_isText_58 rfl hl (by decide) rfl (fun ls hl => ?_)
  refine lv_iinc (v := x3 + (-1)) (lv' := [(3, .int (x3 + (-1))), (2, .int s0), (0, .int p0), (1, .int x1)]) hx hb dX1_isText_59 hl (k := 3) rfl (x_inc (-1) (-1) (by decide)) (by decide) rfl (fun ls hl => ?_)
  refine lv_goto (tgt := 6) hx hb dX1_isText_62 (by decide) ?_
  exact hK6 _ _ _ _ _ _ hR hS (lv_sub hl [2, 3, 1, 0] rfl) hw
def wX1_isText_b53 (post : Int32 → Prop) (K6 : Int32 → Int32 → Int32 → Prop) (p0 : Int32) (x1 : Int32) (x3 : Int32) : Prop :=
  wX1_isText_b58 post K6 p0 x1 x3 1
theorem kX1_isText_b53 {post : Int32 → Prop} {K6 : Int32 → Int32 → Int32 → Prop} {p0 : Int32} (C : x_C p s m args meth c cX1_isText 5 (some .boolean) RX1 D N0 gp) (hK6 : ∀ (x1 : Int32) (x2 : Int32) (x3 : Int32) (H : Heap) (locs : List Loc) (ls : Array Slot), x_R D s N0 X h H → va_S (x_A N0) s.heap H locs → lv_has ls 5 [(0, .int p0), (1, .int x1), (2, .int x2), (3, .int x3)] → K6 x1 x2 x3 → W p l e rmX1_isText s m args below meth c H locs 0 0 (MQ below (x_Qc D N0 (x_Vi (qPi X h post))) args s 0 0 (x_A N0)) (F0 m 6 ls [])) {x1 : Int32} {x3 : Int32} {H : Heap} {locs : List Loc} {ls : Array Slot} (hR : x_R D s N0 X h H) (hS : va_S (x_A N0) s.heap H locs) (hl : lv_has ls 5 [(0, .int p0), (1, .int x1), (3, .int x3)]) (hw : wX1_isText_b53 post K6 p0 x1 x3) : W p l e rmX1_isText s m args below meth c H locs 0 0 (MQ below (x_Qc D N0 (x_Vi (qPi X h post))) args s 0 0 (x_A N0)) (F0 m 53 ls []) := by
  obtain ⟨⟨hx, hb, hml, hown, hts⟩, hr, hlocks, hG, hN⟩ := id C
  unfold wX1_isText_b53 at hw
  refine lv_iconst (v := 1) hx hb dX1_isText_53 (by decide) ?_
  refine lv_goto (tgt := 58) hx hb dX1_isText_54 (by decide) ?_
  exact kX1_isText_b58 C hK6 hR hS (lv_sub hl [0, 1, 2] rfl) hw
def wX1_isText_b57 (post : Int32 → Prop) (K6 : Int32 → Int32 → Int32 → Prop) (p0 : Int32) (x1 : Int32) (x3 : Int32) : Prop :=
  wX1_isText_b58 post K6 p0 x1 x3 0
theorem kX1_isText_b57 {post : Int32 → Prop} {K6 : Int32 → Int32 → Int32 → Prop} {p0 : Int32} (C : x_C p s m args meth c cX1_isText 5 (some .boolean) RX1 D N0 gp) (hK6 : ∀ (x1 : Int32) (x2 : Int32) (x3 : Int32) (H : Heap) (locs : List Loc) (ls : Array Slot), x_R D s N0 X h H → va_S (x_A N0) s.heap H locs → lv_has ls 5 [(0, .int p0), (1, .int x1), (2, .int x2), (3, .int x3)] → K6 x1 x2 x3 → W p l e rmX1_isText s m args below meth c H locs 0 0 (MQ below (x_Qc D N0 (x_Vi (qPi X h post))) args s 0 0 (x_A N0)) (F0 m 6 ls [])) {x1 : Int32} {x3 : Int32} {H : Heap} {locs : List Loc} {ls : Array Slot} (hR : x_R D s N0 X h H) (hS : va_S (x_A N0) s.heap H locs) (hl : lv_has ls 5 [(0, .int p0), (1, .int x1), (3, .int x3)]) (hw : wX1_isText_b57 post K6 p0 x1 x3) : W p l e rmX1_isText s m args below meth c H locs 0 0 (MQ below (x_Qc D N0 (x_Vi (qPi X h post))) args s 0 0 (x_A N0)) (F0 m 57 ls []) := by
  obtain ⟨⟨hx, hb, hml, hown, hts⟩, hr, hlocks, hG, hN⟩ := id C
  unfold wX1_isText_b57 at hw
  refine lv_iconst (v := 0) hx hb dX1_isText_57 (by decide) ?_
  exact kX1_isText_b58 C hK6 hR hS (lv_sub hl [0, 1, 2] rfl) hw
def wX1_isText_b36 (post : Int32 → Prop) (K6 : Int32 → Int32 → Int32 → Prop) (p0 : Int32) (x2 : Int32) (x3 : Int32) (x4 : Int32) (s0 : Int32) : Prop :=
  (x2 = 0 → wX1_isText_b57 post K6 p0 s0 x3) ∧ (¬ x2 = 0 → (s0 = 0 → wX1_isText_b53 post K6 p0 s0 x3) ∧ (¬ s0 = 0 → wX1_isLetter (fun r15 => (r15 = 0 → wX1_isText_b57 post K6 p0 s0 x3) ∧ (¬ r15 = 0 → wX1_isText_b53 post K6 p0 s0 x3)) x4))
theorem kX1_isText_b36 {post : Int32 → Prop} {K6 : Int32 → Int32 → Int32 → Prop} {p0 : Int32} (C : x_C p s m args meth c cX1_isText 5 (some .boolean) RX1 D N0 gp) (hK6 : ∀ (x1 : Int32) (x2 : Int32) (x3 : Int32) (H : Heap) (locs : List Loc) (ls : Array Slot), x_R D s N0 X h H → va_S (x_A N0) s.heap H locs → lv_has ls 5 [(0, .int p0), (1, .int x1), (2, .int x2), (3, .int x3)] → K6 x1 x2 x3 → W p l e rmX1_isText s m args below meth c H locs 0 0 (MQ below (x_Qc D N0 (x_Vi (qPi X h post))) args s 0 0 (x_A N0)) (F0 m 6 ls [])) {x2 : Int32} {x3 : Int32} {x4 : Int32} {s0 : Int32} {H : Heap} {locs : List Loc} {ls : Array Slot} (hR : x_R D s N0 X h H) (hS : va_S (x_A N0) s.heap H locs) (hl : lv_has ls 5 [(0, .int p0), (2, .int x2), (3, .int x3), (4, .int x4)]) (hw : wX1_isText_b36 post K6 p0 x2 x3 x4 s0) : W p l e rmX1_isText s m args below meth c H locs 0 0 (MQ below (x_Qc D N0 (x_Vi (qPi X h post))) args s 0 0 (x_A N0)) (F0 m 36 ls [.int s0]) := by
  obtain ⟨⟨hx, hb, hml, hown, hts⟩, hr, hlocks, hG, hN⟩ := id C
  unfold wX1_isText_b36 at hw
  refine lv_istore_n (lv' := [(1, .int s0), (0, .int p0), (2, .int x2), (3, .int x3), (4, .int x4)]) hx hb dX1_isText_36 rfl hl (by decide) rfl (fun ls hl => ?_)
  refine lv_iload_n hx hb dX1_isText_37 rfl (lv_at hl 2 rfl) ?_
  refine lv_if_eq (tgt := 57) hx hb dX1_isText_38 (by decide) (fun c13 => ?_) (fun c13 => ?_)
  · replace hw := hw.1 c13
    exact kX1_isText_b57 C hK6 hR hS (lv_sub hl [1, 0, 3] rfl) hw
  · replace hw := hw.2 c13
    refine lv_iload_n hx hb dX1_isText_41 rfl (lv_at hl 0 rfl) ?_
    refine lv_if_eq (tgt := 53) hx hb dX1_isText_42 (by decide) (fun c14 => ?_) (fun c14 => ?_)
    · replace hw := hw.1 c14
      exact kX1_isText_b53 C hK6 hR hS (lv_sub hl [1, 0, 3] rfl) hw
    · replace hw := hw.2 c14
      refine lv_iload hx hb dX1_isText_45 (lv_at hl 4 rfl) ?_
      refine x_calli0 (x_runS (n := 1) (As := [.int x4]) C hR hS (kX1_isLetter l D N0 gp _ _ x4 _ hw) (lw_S q1023 q1024 q85 q1025) rfl rfl (by decide +kernel) ⟨Nat.le_of_ble_eq_true rfl, Nat.le_of_ble_eq_true rfl⟩ rfl hl.1 rfl (Nat.le_of_ble_eq_true rfl) dX1_isText_47 ⟨Nat.le_refl _, Nat.le_refl _⟩) hS (fun r15 X1 h1 H locs hq hR hS => ?_)
      clear hw
      obtain ⟨e1, e2, hw⟩ := hq
      rw [e1, e2] at hR
      refine lv_if_eq (tgt := 57) hx hb dX1_isText_50 (by decide) (fun c16 => ?_) (fun c16 => ?_)
      · replace hw := hw.1 c16
        exact kX1_isText_b57 C hK6 hR hS (lv_sub hl [1, 0, 3] rfl) hw
      · replace hw := hw.2 c16
        exact kX1_isText_b53 C hK6 hR hS (lv_sub hl [1, 0, 3] rfl) hw
def wX1_isText_b31 (post : Int32 → Prop) (K6 : Int32 → Int32 → Int32 → Prop) (p0 : Int32) (x2 : Int32) (x3 : Int32) (x4 : Int32) : Prop :=
  wX1_isText_b36 post K6 p0 x2 x3 x4 1
theorem kX1_isText_b31 {post : Int32 → Prop} {K6 : Int32 → Int32 → Int32 → Prop} {p0 : Int32} (C : x_C p s m args meth c cX1_isText 5 (some .boolean) RX1 D N0 gp) (hK6 : ∀ (x1 : Int32) (x2 : Int32) (x3 : Int32) (H : Heap) (locs : List Loc) (ls : Array Slot), x_R D s N0 X h H → va_S (x_A N0) s.heap H locs → lv_has ls 5 [(0, .int p0), (1, .int x1), (2, .int x2), (3, .int x3)] → K6 x1 x2 x3 → W p l e rmX1_isText s m args below meth c H locs 0 0 (MQ below (x_Qc D N0 (x_Vi (qPi X h post))) args s 0 0 (x_A N0)) (F0 m 6 ls [])) {x2 : Int32} {x3 : Int32} {x4 : Int32} {H : Heap} {locs : List Loc} {ls : Array Slot} (hR : x_R D s N0 X h H) (hS : va_S (x_A N0) s.heap H locs) (hl : lv_has ls 5 [(0, .int p0), (2, .int x2), (3, .int x3), (4, .int x4)]) (hw : wX1_isText_b31 post K6 p0 x2 x3 x4) : W p l e rmX1_isText s m args below meth c H locs 0 0 (MQ below (x_Qc D N0 (x_Vi (qPi X h post))) args s 0 0 (x_A N0)) (F0 m 31 ls []) := by
  obtain ⟨⟨hx, hb, hml, hown, hts⟩, hr, hlocks, hG, hN⟩ := id C
  unfold wX1_isText_b31 at hw
  refine lv_iconst (v := 1) hx hb dX1_isText_31 (by decide) ?_
  refine lv_goto (tgt := 36) hx hb dX1_isText_32 (by decide) ?_
  exact kX1_isText_b36 C hK6 hR hS (lv_sub hl [0, 1, 2, 3] rfl) hw
def wX1_isText_b65 (post : Int32 → Prop) (p0 : Int32) (x2 : Int32) : Prop :=
  narrow .boolean (.int x2) = .int x2 ∧ post x2 
theorem kX1_isText_b65 {post : Int32 → Prop} {p0 : Int32} (C : x_C p s m args meth c cX1_isText 5 (some .boolean) RX1 D N0 gp) {x2 : Int32} {H : Heap} {locs : List Loc} {ls : Array Slot} (hR : x_R D s N0 X h H) (hS : va_S (x_A N0) s.heap H locs) (hl : lv_has ls 5 [(2, .int x2)]) (hw : wX1_isText_b65 post p0 x2) : W p l e rmX1_isText s m args below meth c H locs 0 0 (MQ below (x_Qc D N0 (x_Vi (qPi X h post))) args s 0 0 (x_A N0)) (F0 m 65 ls []) := by
  obtain ⟨⟨hx, hb, hml, hown, hts⟩, hr, hlocks, hG, hN⟩ := id C
  unfold wX1_isText_b65 at hw
  refine lv_iload_n hx hb dX1_isText_65 rfl (lv_at hl 0 rfl) ?_
  obtain ⟨hz, hw⟩ := hw
  exact x_endz C hR hS hz ⟨_, rfl, ⟨rfl, rfl, hw⟩⟩ (Nat.le_refl _) (Nat.le_refl _) dX1_isText_66
def tX1_isText_b6 (post : Int32 → Prop) (K6 : Int32 → Int32 → Int32 → Prop) (p0 : Int32) (x1 : Int32) (x2 : Int32) (x3 : Int32) : Prop :=
  (x3 < 0 → wX1_isText_b65 post p0 x2) ∧ (¬ x3 < 0 → (x1 = 0 → (((p0 >>> (((8 : Int32) * x3) &&& 31)) &&& 255) = 0 → wX1_isText_b36 post K6 p0 x2 x3 ((p0 >>> (((8 : Int32) * x3) &&& 31)) &&& 255) 0) ∧ (¬ ((p0 >>> (((8 : Int32) * x3) &&& 31)) &&& 255) = 0 → wX1_isText_b31 post K6 p0 x2 x3 ((p0 >>> (((8 : Int32) * x3) &&& 31)) &&& 255))) ∧ (¬ x1 = 0 → wX1_isText_b31 post K6 p0 x2 x3 ((p0 >>> (((8 : Int32) * x3) &&& 31)) &&& 255)))
def wX1_isText_b6 (post : Int32 → Prop) (p0 : Int32) : Nat → Int32 → Int32 → Int32 → Prop
  | 0 => fun _ _ _ => False
  | n + 1 => fun x1 x2 x3 => tX1_isText_b6 post (wX1_isText_b6 post p0 n) p0 x1 x2 x3
theorem kX1_isText_b6 {post : Int32 → Prop} {p0 : Int32} (C : x_C p s m args meth c cX1_isText 5 (some .boolean) RX1 D N0 gp) : ∀ (nn : Nat) (x1 : Int32) (x2 : Int32) (x3 : Int32) (H : Heap) (locs : List Loc) (ls : Array Slot), x_R D s N0 X h H → va_S (x_A N0) s.heap H locs → lv_has ls 5 [(0, .int p0), (1, .int x1), (2, .int x2), (3, .int x3)] → wX1_isText_b6 post p0 nn x1 x2 x3 → W p l e rmX1_isText s m args below meth c H locs 0 0 (MQ below (x_Qc D N0 (x_Vi (qPi X h post))) args s 0 0 (x_A N0)) (F0 m 6 ls []) := by
  obtain ⟨⟨hx, hb, hml, hown, hts⟩, hr, hlocks, hG, hN⟩ := id C
  intro nn
  induction nn with
  | zero =>
    intro x1 x2 x3 H locs ls hR hS hl hw
    exact False.elim hw
  | succ nn ih =>
    intro x1 x2 x3 H locs ls hR hS hl hw
    have hK6 := ih
    replace hw : tX1_isText_b6 post (wX1_isText_b6 post p0 nn) p0 x1 x2 x3 := hw
    unfold tX1_isText_b6 at hw
    refine lv_iload_n hx hb dX1_isText_6 rfl (lv_at hl 3 rfl) ?_
    refine lv_if_lt (tgt := 65) hx hb dX1_isText_7 (by decide) (fun c10 => ?_) (fun c10 => ?_)
    · replace hw := hw.1 c10
      exact kX1_isText_b65 C hR hS (lv_sub hl [2] rfl) hw
    · replace hw := hw.2 c10
      refine lv_iload_n hx hb dX1_isText_10 rfl (lv_at hl 0 rfl) ?_
      refine lv_bipush (v := 8) hx hb dX1_isText_11 (by decide) ?_
      refine lv_iload_n hx hb dX1_isText_13 rfl (lv_at hl 3 rfl) ?_
      refine lv_imul hx hb dX1_isText_14 ?_
      refine lv_ishr hx hb dX1_isText_15 ?_
      refine lv_sipush (v := 255) hx hb dX1_isText_16 (by decide) ?_
      refine lv_iand hx hb dX1_isText_19 ?_
      refine lv_istore (lv' := [(4, .int ((p0 >>> (((8 : Int32) * x3) &&& 31)) &&& 255)), (0, .int p0), (1, .int x1), (2, .int x2), (3, .int x3)]) hx hb dX1_isText_20 hl (by decide) rfl (fun ls hl => ?_)
      refine lv_iload_n hx hb dX1_isText_22 rfl (lv_at hl 2 rfl) ?_
      refine lv_if_ne (tgt := 31) hx hb dX1_isText_23 (by decide) (fun c11 => ?_) (fun c11 => ?_)
      · replace hw := hw.2 c11
        exact kX1_isText_b31 C hK6 hR hS (lv_sub hl [1, 3, 4, 0] rfl) hw
      · replace hw := hw.1 c11
        refine lv_iload hx hb dX1_isText_26 (lv_at hl 0 rfl) ?_
        refine lv_if_eq (tgt := 35) hx hb dX1_isText_28 (by decide) (fun c12 => ?_) (fun c12 => ?_)
        · replace hw := hw.1 c12
          refine lv_iconst (v := 0) hx hb dX1_isText_35 (by decide) ?_
          exact kX1_isText_b36 C hK6 hR hS (lv_sub hl [1, 3, 4, 0] rfl) hw
        · replace hw := hw.2 c12
          exact kX1_isText_b31 C hK6 hR hS (lv_sub hl [1, 3, 4, 0] rfl) hw
end
def wX1_isText (post : Int32 → Prop) (p0 : Int32) : Prop :=
  ∃ n9 : Nat, wX1_isText_b6 post p0 n9 0 1 3
theorem kX1_isText (l : Launch) (D : va_G) (N0 : Nat) (gp : Nat → Nat) (X : x_X) (h : x_H) (p0 : Int32) (post : Int32 → Prop) (hw : wX1_isText post p0 ) : Met l yX1_isText (ws_ yX1_isText cX1_isText 5 (some .boolean)) rmX1_isText (x_Pc D N0 gp X h [.int p0]) (x_Qc D N0 (x_Vi (qPi X h post))) 0 0 (x_A N0) := by
  refine x_start (lv := [(0, .int p0)]) (by decide) rfl (Nat.le_of_ble_eq_true rfl) rfl ?_
  intro p e s m below meth c C hR ls hl
  have hS : va_S (x_A N0) s.heap s.heap [] := va_S.rf
  obtain ⟨⟨hx, hb, hml, hown, hts⟩, hr, hlocks, hG, hN⟩ := id C
  unfold wX1_isText at hw
  refine lv_iconst (v := 0) hx hb dX1_isText_0 (by decide) ?_
  refine lv_istore_n (lv' := [(1, .int 0), (0, .int p0)]) hx hb dX1_isText_1 rfl hl (by decide) rfl (fun ls hl => ?_)
  refine lv_iconst (v := 1) hx hb dX1_isText_2 (by decide) ?_
  refine lv_istore_n (lv' := [(2, .int 1), (1, .int 0), (0, .int p0)]) hx hb dX1_isText_3 rfl hl (by decide) rfl (fun ls hl => ?_)
  refine lv_iconst (v := 3) hx hb dX1_isText_4 (by decide) ?_
  refine lv_istore_n (lv' := [(3, .int 3), (2, .int 1), (1, .int 0), (0, .int p0)]) hx hb dX1_isText_5 rfl hl (by decide) rfl (fun ls hl => ?_)
  obtain ⟨n9, hw⟩ := hw
  exact kX1_isText_b6 C n9 _ _ _ _ _ _ hR hS (lv_sub hl [3, 2, 1, 0] rfl) hw
/-- PageServer.need(Z)V -/
abbrev rmX1_need (mc0 ms0 : Nat) : Room := { frames := 6, cells := mc0, slots := ms0, locals := 100 }
section
variable {p : Program} {l : Launch} {e : Env} {s : State} {m : MethodId} {args : Array Value} {below : List Frame} {meth : Method} {c : Code} {D : va_G} {N0 : Nat} {gp : Nat → Nat} {ad : Nat → Nat} {XF : x_X} {mc0 ms0 : Nat}
end
def wX1_need (post : (Nat → Int32) → (Nat → Nat → Int32) → x_H → Prop) (postX : String → (Nat → Int32) → (Nat → Nat → Int32) → x_H → Prop) (ad : Nat → Nat) (p0 : Int32) (F : (Nat → Int32)) (M : (Nat → Nat → Int32)) (h : x_H) (mc : Nat) (ms : Nat) : Prop :=
  (p0 = 0 → 1 ≤ mc ∧ 6 ≤ ms ∧ postX "java/lang/IllegalArgumentException" F M h) ∧ (¬ p0 = 0 → post F M h)
theorem kX1_need (l : Launch) (D : va_G) (N0 : Nat) (gp : Nat → Nat) (ad : Nat → Nat) (XF : x_X) (p0 : Int32) (F : (Nat → Int32)) (M : (Nat → Nat → Int32)) (h : x_H) (mc : Nat) (ms : Nat) (post : (Nat → Int32) → (Nat → Nat → Int32) → x_H → Prop) (postX : String → (Nat → Int32) → (Nat → Nat → Int32) → x_H → Prop) (hlt : l.stackTraces = false) (hw : wX1_need post postX ad p0 F M h mc ms) : vx_Met l yX1_need (ws_ yX1_need cX1_need 1 none) (rmX1_need mc ms) (x_Pc D N0 gp (fixC ad F M ++ XF) h [.int p0]) (x_Qc D N0 (x_Vv (qCv ad XF post))) (x_XC D N0 (qXC ad XF postX)) mc ms (x_A N0) := by
  refine x_startX (lv := [(0, .int p0)]) (by decide) rfl (Nat.le_of_ble_eq_true rfl) rfl ?_
  intro p e s m below meth c C hxt hR ls hl
  have hS : va_S (x_A N0) s.heap s.heap [] := va_S.rf
  obtain ⟨⟨hx, hb, hml, hown, hts⟩, hr, hlocks, hG, hN⟩ := id C
  unfold wX1_need at hw
  have hk : 0 + mc ≤ mc := Nat.le_of_eq (Nat.zero_add _)
  have hn : 0 + ms ≤ ms := Nat.le_of_eq (Nat.zero_add _)
  refine lv_iload_n hx hb dX1_need_0 rfl (lv_at hl 0 rfl) ?_
  refine lv_if_ne (tgt := 12) hx hb dX1_need_1 (by decide) (fun c4 => ?_) (fun c4 => ?_)
  · replace hw := hw.2 c4
    exact vx_ret (x_endv C hR hS ⟨rfl, ⟨_, _, rfl, hw⟩⟩ (x_le hk) (x_le hn) dX1_need_12)
  · replace hw := hw.1 c4
    obtain ⟨g5, g6, hw⟩ := hw
    exact x_throw C hlt (fun x hx => (hxt x hx).elim) hR hS _ x_at_IAE x_ag_IAE x_ao_IAE (by decide +kernel) q497 q108 hl.1 dX1_need_4 dX1_need_7 dX1_need_8 dX1_need_11 (Nat.le_of_ble_eq_true rfl) (Nat.le_of_ble_eq_true rfl) (x_bud1 hk g5) (x_bud1 hn g6) ⟨_, _, rfl, hw⟩ (x_bud1 hk g5) (x_bud1 hn g6)
/-- PageServer.append(Ljava/lang/StringBuilder;I)V -/
abbrev rmX1_append (mc0 ms0 : Nat) : Room := { frames := 6, cells := mc0, slots := ms0, locals := 152 }
section
variable {p : Program} {l : Launch} {e : Env} {s : State} {m : MethodId} {args : Array Value} {below : List Frame} {meth : Method} {c : Code} {D : va_G} {N0 : Nat} {gp : Nat → Nat} {ad : Nat → Nat} {XF : x_X} {mc0 ms0 : Nat}
def wX1_append_b35 (post : (Nat → Int32) → (Nat → Nat → Int32) → x_H → Prop) (K2 : (Nat → Int32) → (Nat → Nat → Int32) → x_H → Nat → Nat → Int32 → Prop) (ad : Nat → Nat) (p0 : Nat) (p1 : Int32) (F : (Nat → Int32)) (M : (Nat → Nat → Int32)) (h : x_H) (mc : Nat) (ms : Nat) (x2 : Int32) : Prop :=
  K2 F M h mc ms (x2 + (-1))
theorem kX1_append_b35 {post : (Nat → Int32) → (Nat → Nat → Int32) → x_H → Prop} {K2 : (Nat → Int32) → (Nat → Nat → Int32) → x_H → Nat → Nat → Int32 → Prop} {p0 : Nat} {p1 : Int32} (C : x_C p s m args meth c cX1_append 3 none RX1 D N0 gp) (hK2 : ∀ (F : (Nat → Int32)) (M : (Nat → Nat → Int32)) (h : x_H) (mc : Nat) (ms : Nat) (x2 : Int32) (k n : Nat) (H : Heap) (locs : List Loc) (ls : Array Slot), x_R D s N0 (fixC ad F M ++ XF) h H → va_S (x_A N0) s.heap H locs → k + mc ≤ mc0 → n + ms ≤ ms0 → lv_has ls 3 [(0, .ref p0), (1, .int p1), (2, .int x2)] → K2 F M h mc ms x2 → W p l e (rmX1_append mc0 ms0) s m args below meth c H locs k n (MQ below (x_Qc D N0 (x_Vv (qCv ad XF post))) args s mc0 ms0 (x_A N0)) (F0 m 2 ls [])) {F : (Nat → Int32)} {M : (Nat → Nat → Int32)} {h : x_H} {mc : Nat} {ms : Nat} {x2 : Int32} {k n : Nat} {H : Heap} {locs : List Loc} {ls : Array Slot} (hR : x_R D s N0 (fixC ad F M ++ XF) h H) (hS : va_S (x_A N0) s.heap H locs) (hk : k + mc ≤ mc0) (hn : n + ms ≤ ms0) (hl : lv_has ls 3 [(0, .ref p0), (1, .int p1), (2, .int x2)]) (hw : wX1_append_b35 post K2 ad p0 p1 F M h mc ms x2) : W p l e (rmX1_append mc0 ms0) s m args below meth c H locs k n (MQ below (x_Qc D N0 (x_Vv (qCv ad XF post))) args s mc0 ms0 (x_A N0)) (F0 m 35 ls []) := by
  obtain ⟨⟨hx, hb, hml, hown, hts⟩, hr, hlocks, hG, hN⟩ := id C
  unfold wX1_append_b35 at hw
  refine lv_iinc (v := x2 + (-1)) (lv' := [(2, .int (x2 + (-1))), (0, .ref p0), (1, .int p1)]) hx hb dX1_append_35 hl (k := 2) rfl (x_inc (-1) (-1) (by decide)) (by decide) rfl (fun ls hl => ?_)
  refine lv_goto (tgt := 2) hx hb dX1_append_38 (by decide) ?_
  exact hK2 _ _ _ _ _ _ _ _ _ _ _ hR hS hk hn (lv_sub hl [1, 2, 0] rfl) hw
def wX1_append_b41 (post : (Nat → Int32) → (Nat → Nat → Int32) → x_H → Prop) (ad : Nat → Nat) (p0 : Nat) (p1 : Int32) (F : (Nat → Int32)) (M : (Nat → Nat → Int32)) (h : x_H) (mc : Nat) (ms : Nat) : Prop :=
  post F M h
theorem kX1_append_b41 {post : (Nat → Int32) → (Nat → Nat → Int32) → x_H → Prop} {p0 : Nat} {p1 : Int32} (C : x_C p s m args meth c cX1_append 3 none RX1 D N0 gp) {F : (Nat → Int32)} {M : (Nat → Nat → Int32)} {h : x_H} {mc : Nat} {ms : Nat} {k n : Nat} {H : Heap} {locs : List Loc} {ls : Array Slot} (hR : x_R D s N0 (fixC ad F M ++ XF) h H) (hS : va_S (x_A N0) s.heap H locs) (hk : k + mc ≤ mc0) (hn : n + ms ≤ ms0) (hl : lv_has ls 3 []) (hw : wX1_append_b41 post ad p0 p1 F M h mc ms) : W p l e (rmX1_append mc0 ms0) s m args below meth c H locs k n (MQ below (x_Qc D N0 (x_Vv (qCv ad XF post))) args s mc0 ms0 (x_A N0)) (F0 m 41 ls []) := by
  obtain ⟨⟨hx, hb, hml, hown, hts⟩, hr, hlocks, hG, hN⟩ := id C
  unfold wX1_append_b41 at hw
  exact x_endv C hR hS ⟨rfl, ⟨_, _, rfl, hw⟩⟩ (x_le hk) (x_le hn) dX1_append_41
def tX1_append_b2 (post : (Nat → Int32) → (Nat → Nat → Int32) → x_H → Prop) (K2 : (Nat → Int32) → (Nat → Nat → Int32) → x_H → Nat → Nat → Int32 → Prop) (ad : Nat → Nat) (p0 : Nat) (p1 : Int32) (F : (Nat → Int32)) (M : (Nat → Nat → Int32)) (h : x_H) (mc : Nat) (ms : Nat) (x2 : Int32) : Prop :=
  (x2 < 0 → wX1_append_b41 post ad p0 p1 F M h mc ms) ∧ (¬ x2 < 0 → (((p1 >>> (((8 : Int32) * x2) &&& 31)) &&& 255) = 0 → wX1_append_b35 post K2 ad p0 p1 F M h mc ms x2) ∧ (¬ ((p1 >>> (((8 : Int32) * x2) &&& 31)) &&& 255) = 0 → ∃ (t22 : Nat) (fs23 : List Value), h p0 = some (t22, .inr (8, fs23)) ∧ ∃ ca17 cb18 mc19 ms20 : Nat, ca17 + mc19 ≤ mc ∧ cb18 + ms20 ≤ ms ∧ wJ8_append_3 (fun r16 h21 => wX1_append_b35 post K2 ad p0 p1 F M h21 mc19 ms20 x2) p0 ((((p1 >>> (((8 : Int32) * x2) &&& 31)) &&& 255).toUInt32 % 65536).toInt32) h ca17 cb18))
def wX1_append_b2 (post : (Nat → Int32) → (Nat → Nat → Int32) → x_H → Prop) (ad : Nat → Nat) (p0 : Nat) (p1 : Int32) : Nat → (Nat → Int32) → (Nat → Nat → Int32) → x_H → Nat → Nat → Int32 → Prop
  | 0 => fun _ _ _ _ _ _ => False
  | n + 1 => fun F M h mc ms x2 => tX1_append_b2 post (wX1_append_b2 post ad p0 p1 n) ad p0 p1 F M h mc ms x2
theorem kX1_append_b2 {post : (Nat → Int32) → (Nat → Nat → Int32) → x_H → Prop} {p0 : Nat} {p1 : Int32} (C : x_C p s m args meth c cX1_append 3 none RX1 D N0 gp) : ∀ (nn : Nat) (F : (Nat → Int32)) (M : (Nat → Nat → Int32)) (h : x_H) (mc : Nat) (ms : Nat) (x2 : Int32) (k n : Nat) (H : Heap) (locs : List Loc) (ls : Array Slot), x_R D s N0 (fixC ad F M ++ XF) h H → va_S (x_A N0) s.heap H locs → k + mc ≤ mc0 → n + ms ≤ ms0 → lv_has ls 3 [(0, .ref p0), (1, .int p1), (2, .int x2)] → wX1_append_b2 post ad p0 p1 nn F M h mc ms x2 → W p l e (rmX1_append mc0 ms0) s m args below meth c H locs k n (MQ below (x_Qc D N0 (x_Vv (qCv ad XF post))) args s mc0 ms0 (x_A N0)) (F0 m 2 ls []) := by
  obtain ⟨⟨hx, hb, hml, hown, hts⟩, hr, hlocks, hG, hN⟩ := id C
  intro nn
  induction nn with
  | zero =>
    intro F M h mc ms x2 k n H locs ls hR hS hk hn hl hw
    exact False.elim hw
  | succ nn ih =>
    intro F M h mc ms x2 k n H locs ls hR hS hk hn hl hw
    have hK2 := ih
    replace hw : tX1_append_b2 post (wX1_append_b2 post ad p0 p1 nn) ad p0 p1 F M h mc ms x2 := hw
    unfold tX1_append_b2 at hw
    refine lv_iload_n hx hb dX1_append_2 rfl (lv_at hl 2 rfl) ?_
    refine lv_if_lt (tgt := 41) hx hb dX1_append_3 (by decide) (fun c14 => ?_) (fun c14 => ?_)
    · replace hw := hw.1 c14
      exact kX1_append_b41 C hR hS hk hn (lv_sub hl [] rfl) hw
    · replace hw := hw.2 c14
      refine lv_iload_n hx hb dX1_append_6 rfl (lv_at hl 1 rfl) ?_
      refine lv_bipush (v := 8) hx hb dX1_append_7 (by decide) ?_
      refine lv_iload_n hx hb dX1_append_9 rfl (lv_at hl 2 rfl) ?_
      refine lv_imul hx hb dX1_append_10 ?_
      refine lv_ishr hx hb dX1_append_11 ?_
      refine lv_sipush (v := 255) hx hb dX1_append_12 (by decide) ?_
      refine lv_iand hx hb dX1_append_15 ?_
      refine lv_if_eq (tgt := 35) hx hb dX1_append_16 (by decide) (fun c15 => ?_) (fun c15 => ?_)
      · replace hw := hw.1 c15
        exact kX1_append_b35 C hK2 hR hS hk hn (lv_sub hl [0, 1, 2] rfl) hw
      · replace hw := hw.2 c15
        refine lv_aload_n hx hb dX1_append_19 rfl (lv_at hl 0 rfl) ?_
        refine lv_iload_n hx hb dX1_append_20 rfl (lv_at hl 1 rfl) ?_
        refine lv_bipush (v := 8) hx hb dX1_append_21 (by decide) ?_
        refine lv_iload_n hx hb dX1_append_23 rfl (lv_at hl 2 rfl) ?_
        refine lv_imul hx hb dX1_append_24 ?_
        refine lv_ishr hx hb dX1_append_25 ?_
        refine lv_sipush (v := 255) hx hb dX1_append_26 (by decide) ?_
        refine lv_iand hx hb dX1_append_29 ?_
        refine lv_i2c hx hb dX1_append_30 rfl ?_
        obtain ⟨t22, fs23, he24, hw⟩ := hw
        obtain ⟨ca17, cb18, mc19, ms20, hca17, hcb18, hw⟩ := hw
        refine x_calla (x_runV (n := 1) (As := [.int ((((p1 >>> (((8 : Int32) * x2) &&& 31)) &&& 255).toUInt32 % 65536).toInt32)]) C hR hS (kJ8_append_3 l D N0 gp _ p0 ((((p1 >>> (((8 : Int32) * x2) &&& 31)) &&& 255).toUInt32 % 65536).toInt32) h ca17 cb18 _ hw) (lw_V q1096 q930 q931 q98 q932) rfl rfl (by decide +kernel) ⟨Nat.le_of_ble_eq_true rfl, Nat.le_of_ble_eq_true rfl⟩ (x_recv C (hR.rdH he24) rfl) rfl hl.1 rfl (Nat.le_of_ble_eq_true rfl) dX1_append_31 ⟨x_bud hk hca17, x_bud hn hcb18⟩) hS (fun r16 X1 h21 H locs hq hR hS => ?_)
        clear hw
        obtain ⟨e1, hw⟩ := hq
        rw [e1] at hR
        have hk := x_budN hk hca17
        have hn := x_budN hn hcb18
        refine lv_pop hx hb dX1_append_34 (x_cat1 _) ?_
        exact kX1_append_b35 C hK2 hR hS hk hn (lv_sub hl [0, 1, 2] rfl) hw
end
def wX1_append (post : (Nat → Int32) → (Nat → Nat → Int32) → x_H → Prop) (ad : Nat → Nat) (p0 : Nat) (p1 : Int32) (F : (Nat → Int32)) (M : (Nat → Nat → Int32)) (h : x_H) (mc : Nat) (ms : Nat) : Prop :=
  ∃ n13 : Nat, wX1_append_b2 post ad p0 p1 n13 F M h mc ms 3
theorem kX1_append (l : Launch) (D : va_G) (N0 : Nat) (gp : Nat → Nat) (ad : Nat → Nat) (XF : x_X) (p0 : Nat) (p1 : Int32) (F : (Nat → Int32)) (M : (Nat → Nat → Int32)) (h : x_H) (mc : Nat) (ms : Nat) (post : (Nat → Int32) → (Nat → Nat → Int32) → x_H → Prop) (hw : wX1_append post ad p0 p1 F M h mc ms) : Met l yX1_append (ws_ yX1_append cX1_append 3 none) (rmX1_append mc ms) (x_Pc D N0 gp (fixC ad F M ++ XF) h [.ref p0, .int p1]) (x_Qc D N0 (x_Vv (qCv ad XF post))) mc ms (x_A N0) := by
  refine x_start (lv := [(0, .ref p0), (1, .int p1)]) (by decide) rfl (Nat.le_of_ble_eq_true rfl) rfl ?_
  intro p e s m below meth c C hR ls hl
  have hS : va_S (x_A N0) s.heap s.heap [] := va_S.rf
  obtain ⟨⟨hx, hb, hml, hown, hts⟩, hr, hlocks, hG, hN⟩ := id C
  unfold wX1_append at hw
  have hk : 0 + mc ≤ mc := Nat.le_of_eq (Nat.zero_add _)
  have hn : 0 + ms ≤ ms := Nat.le_of_eq (Nat.zero_add _)
  refine lv_iconst (v := 3) hx hb dX1_append_0 (by decide) ?_
  refine lv_istore_n (lv' := [(2, .int 3), (0, .ref p0), (1, .int p1)]) hx hb dX1_append_1 rfl hl (by decide) rfl (fun ls hl => ?_)
  obtain ⟨n13, hw⟩ := hw
  exact kX1_append_b2 C n13 _ _ _ _ _ _ _ _ _ _ _ hR hS hk hn (lv_sub hl [1, 2, 0] rfl) hw
/-- PageServer$Page.<init>(Ljava/lang/String;II)V -/
abbrev rmX7_init : Room := { frames := 2, cells := 0, slots := 0, locals := 32 }
section
variable {p : Program} {l : Launch} {e : Env} {s : State} {m : MethodId} {args : Array Value} {below : List Frame} {meth : Method} {c : Code} {D : va_G} {N0 : Nat} {gp : Nat → Nat} {X : x_X}
end
def wX7_init (post : x_H → Prop) (p0 : Nat) (p1 : Nat) (p2 : Int32) (p3 : Int32) (h : x_H) : Prop :=
  wJ3_init (∃ (t19 : Nat) (fs20 : List Value), h p0 = some (t19, .inr (6, fs20)) ∧ t19 ≠ 1 ∧ 0 < fs20.length ∧ ∀ h24 : x_H, h24 = x_hs h p0 t19 (.inr (6, fs20.set 0 (.ref p1))) → ∃ (t25 : Nat) (fs26 : List Value), h24 p0 = some (t25, .inr (6, fs26)) ∧ t25 ≠ 1 ∧ 1 < fs26.length ∧ ∀ h30 : x_H, h30 = x_hs h24 p0 t25 (.inr (6, fs26.set 1 (.int p2))) → ∃ (t31 : Nat) (fs32 : List Value), h30 p0 = some (t31, .inr (6, fs32)) ∧ t31 ≠ 1 ∧ 2 < fs32.length ∧ ∀ h36 : x_H, h36 = x_hs h30 p0 t31 (.inr (6, fs32.set 2 (.int p3))) → post h36) p0 h
theorem kX7_init (l : Launch) (D : va_G) (N0 : Nat) (gp : Nat → Nat) (X : x_X) (p0 : Nat) (p1 : Nat) (p2 : Int32) (p3 : Int32) (h : x_H) (post : x_H → Prop) (hw : wX7_init post p0 p1 p2 p3 h) : Met l yX7_init (ws_ yX7_init cX7_init 4 none) rmX7_init (x_Pc D N0 gp X h [.ref p0, .ref p1, .int p2, .int p3]) (x_Qc D N0 (x_Vv (qJv X post))) 0 0 (x_A N0) := by
  refine x_startI (lv := [(0, .ref p0), (1, .ref p1), (2, .int p2), (3, .int p3)]) (by decide) rfl (Nat.le_of_ble_eq_true rfl) rfl ?_
  intro p e s m below meth c C hin hR ls hl
  have hS : va_S (x_A N0) s.heap s.heap [] := va_S.rf
  obtain ⟨⟨hx, hb, hml, hown, hts⟩, hr, hlocks, hG, hN⟩ := id C
  unfold wX7_init at hw
  refine lv_aload_n hx hb dX7_init_0 rfl (lv_at hl 0 rfl) ?_
  refine x_callv0 (x_runI (n := 0) (As := []) (b := p0) C hR hS (kJ3_init l D N0 gp _ p0 h _ hw) q166 q90 q1105 q165 rfl rfl rfl (by decide +kernel) ⟨Nat.le_of_ble_eq_true rfl, Nat.le_of_ble_eq_true rfl⟩ rfl hl.1 rfl (Nat.le_of_ble_eq_true rfl) dX7_init_1 ⟨Nat.le_refl _, Nat.le_refl _⟩) hS (fun X1 h1 H locs hq hR hS => ?_)
  clear hw
  obtain ⟨e1, e2, hw⟩ := hq
  rw [e1, e2] at hR
  refine lv_aload_n hx hb dX7_init_4 rfl (lv_at hl 0 rfl) ?_
  refine lv_aload_n hx hb dX7_init_5 rfl (lv_at hl 1 rfl) ?_
  obtain ⟨t19, fs20, he21, ht22, hl23, hw⟩ := hw
  refine x_putHF (ci := 6) (Cn := RX7) (T := TX7) (N := 3) (v := .ref p1) C hin hR hS he21 ht22 rfl in_X7 tyX7_ok nmX7 0 (by decide) q1106 (fun _ h9 => h9) rfl rfl rfl rfl hl23 dX7_init_6 (fun H locs hR hS => ?_)
  obtain ⟨h24, eh24⟩ : ∃ z, z = x_hs h p0 t19 (.inr (6, fs20.set 0 (.ref p1))) := ⟨_, rfl⟩
  rw [← eh24] at hR
  replace hw := hw h24 eh24
  refine lv_aload_n hx hb dX7_init_9 rfl (lv_at hl 0 rfl) ?_
  refine lv_iload_n hx hb dX7_init_10 rfl (lv_at hl 2 rfl) ?_
  obtain ⟨t25, fs26, he27, ht28, hl29, hw⟩ := hw
  refine x_putHF (ci := 6) (Cn := RX7) (T := TX7) (N := 3) (v := .int p2) C hin hR hS he27 ht28 rfl in_X7 tyX7_ok nmX7 1 (by decide) q1107 (fun _ h9 => h9) rfl rfl rfl rfl hl29 dX7_init_11 (fun H locs hR hS => ?_)
  obtain ⟨h30, eh30⟩ : ∃ z, z = x_hs h24 p0 t25 (.inr (6, fs26.set 1 (.int p2))) := ⟨_, rfl⟩
  rw [← eh30] at hR
  replace hw := hw h30 eh30
  refine lv_aload_n hx hb dX7_init_14 rfl (lv_at hl 0 rfl) ?_
  refine lv_iload_n hx hb dX7_init_15 rfl (lv_at hl 3 rfl) ?_
  obtain ⟨t31, fs32, he33, ht34, hl35, hw⟩ := hw
  refine x_putHF (ci := 6) (Cn := RX7) (T := TX7) (N := 3) (v := .int p3) C hin hR hS he33 ht34 rfl in_X7 tyX7_ok nmX7 2 (by decide) q1108 (fun _ h9 => h9) rfl rfl rfl rfl hl35 dX7_init_16 (fun H locs hR hS => ?_)
  obtain ⟨h36, eh36⟩ : ∃ z, z = x_hs h30 p0 t31 (.inr (6, fs32.set 2 (.int p3))) := ⟨_, rfl⟩
  rw [← eh36] at hR
  replace hw := hw h36 eh36
  exact x_endv C hR hS ⟨rfl, ⟨rfl, hw⟩⟩ (Nat.le_refl _) (Nat.le_refl _) dX7_init_19
/-- PageServer.page(IIII)I -/
abbrev rmX1_page (mc0 ms0 : Nat) : Room := { frames := 7, cells := mc0, slots := ms0, locals := 174 }
section
variable {p : Program} {l : Launch} {e : Env} {s : State} {m : MethodId} {args : Array Value} {below : List Frame} {meth : Method} {c : Code} {D : va_G} {N0 : Nat} {gp : Nat → Nat} {ad : Nat → Nat} {XF : x_X} {mc0 ms0 : Nat}
def wX1_page_b112 (post : Int32 → (Nat → Int32) → (Nat → Nat → Int32) → x_H → Prop) (postX : String → (Nat → Int32) → (Nat → Nat → Int32) → x_H → Prop) (gp : Nat → Nat) (ad : Nat → Nat) (p1 : Int32) (p2 : Int32) (p3 : Int32) (p4 : Int32) (F : (Nat → Int32)) (M : (Nat → Nat → Int32)) (h : x_H) (mc : Nat) (ms : Nat) (x6 : Option Nat) (s0 : Int32) : Prop :=
  ∃ ca160 cb161 mc162 ms163 : Nat, ca160 + mc162 ≤ mc ∧ cb161 + ms163 ≤ ms ∧ wX1_need (fun F164 M164 h165 => ∃ (t167 : Nat) (fs168 : List Value), h165 (ad 0) = some (t167, .inr (7, fs168)) ∧ wJ2_size (fun r166 => (r166 = 8 → 1 ≤ mc162 ∧ 6 ≤ ms163 ∧ postX "java/lang/IllegalStateException" F164 M164 h165) ∧ (¬ r166 = 8 → ∃ mc171 ms172 : Nat, 1 + mc171 ≤ mc162 ∧ 3 + ms172 ≤ ms163 ∧ ∀ q173 : Nat, h165 q173 = none → ∃ t174 : Nat, t174 ≠ 1 ∧ ∀ h177 : x_H, h177 = x_hs h165 q173 t174 (.inr (6, [.null, .int 0, .int 0])) → ∃ a178 : Nat, x6 = some a178 ∧ wX7_init (fun h179 => ∃ (t186 : Nat) (fs187 : List Value), h179 (ad 0) = some (t186, .inr (7, fs187)) ∧ ∃ ca181 cb182 mc183 ms184 : Nat, ca181 + mc183 ≤ mc171 ∧ cb182 + ms184 ≤ ms172 ∧ wJ2_add (fun r180 h185 => ∃ (t190 : Nat) (fs191 : List Value), h185 (ad 0) = some (t190, .inr (7, fs191)) ∧ wJ2_size (fun r189 => post (r189 - 1) F164 M164 h185) (ad 0) h185) gp (ad 0) q173 h179 ca181 cb182) q173 a178 p3 p4 h177)) (ad 0) h165) postX ad s0 F M h ca160 cb161
theorem kX1_page_b112 {post : Int32 → (Nat → Int32) → (Nat → Nat → Int32) → x_H → Prop} {postX : String → (Nat → Int32) → (Nat → Nat → Int32) → x_H → Prop} {p1 : Int32} {p2 : Int32} {p3 : Int32} {p4 : Int32} (C : x_C p s m args meth c cX1_page 7 (some .int) RX1 D N0 gp) (hlt : l.stackTraces = false) (hxt : ∀ x ∈ c.exceptionTable.toList, False) {F : (Nat → Int32)} {M : (Nat → Nat → Int32)} {h : x_H} {mc : Nat} {ms : Nat} {x6 : Option Nat} {s0 : Int32} {k n : Nat} {H : Heap} {locs : List Loc} {ls : Array Slot} (hR : x_R D s N0 (fixC ad F M ++ XF) h H) (hS : va_S (x_A N0) s.heap H locs) (hk : k + mc ≤ mc0) (hn : n + ms ≤ ms0) (hl : lv_has ls 7 [(0, .ref (ad 1000)), (3, .int p3), (4, .int p4), (6, va_rf x6)]) (hw : wX1_page_b112 post postX gp ad p1 p2 p3 p4 F M h mc ms x6 s0) : W p l e (rmX1_page mc0 ms0) s m args below meth c H locs k n (vx_MQ below (x_Qc D N0 (x_Vi (qCi ad XF post))) (x_XC D N0 (qXC ad XF postX)) args s mc0 ms0 (x_A N0)) (F0 m 112 ls [.int s0]) := by
  obtain ⟨⟨hx, hb, hml, hown, hts⟩, hr, hlocks, hG, hN⟩ := id C
  unfold wX1_page_b112 at hw
  obtain ⟨ca160, cb161, mc162, ms163, hca160, hcb161, hw⟩ := hw
  refine x_callXv (x_runSX (n := 1) (As := [.int s0]) C hR hS (kX1_need l D N0 gp ad XF s0 F M h ca160 cb161 _ _ hlt hw) (lw_S q1091 q1092 q85 q1093) rfl rfl (by decide +kernel) ⟨Nat.le_of_ble_eq_true rfl, Nat.le_of_ble_eq_true rfl⟩ rfl hl.1 rfl (Nat.le_of_ble_eq_true rfl) dX1_page_112 ⟨x_bud hk hca160, x_bud hn hcb161⟩) hS (fun E9 ce9 q9 X9 h9 H9 locs9 hq9 hR9 hS9 hce9 hcv9 hcl9 => by obtain ⟨F9, M9, e9, hq9⟩ := hq9; rw [e9] at hR9; exact x_outX C hxt hR9 hS9 ⟨_, _, rfl, hq9⟩ hce9 hcv9 hcl9 (x_bud hk hca160) (x_bud hn hcb161)) (fun X1 h165 H locs hq hR hS => ?_)
  clear hw
  obtain ⟨F164, M164, e1, hw⟩ := hq
  rw [e1] at hR
  have hk := x_budN hk hca160
  have hn := x_budN hn hcb161
  refine lv_aload_n hx hb dX1_page_115 rfl (lv_at hl 0 rfl) ?_
  refine x_get (ci := 0) (Cn := RX1) (T := TX1) (N := 27) (v := .ref (ad 0)) C (hR.rdX 0 rfl) rfl in_X1 0 (by decide) q393 (fun _ h9 => h9) rfl dX1_page_116 ?_
  obtain ⟨t167, fs168, he169, hw⟩ := hw
  refine x_calli0 (x_runV (n := 0) (As := []) C hR hS (kJ2_size l D N0 gp _ (ad 0) h165 _ hw) (lw_V q358 q359 q360 q88 q361) rfl rfl (by decide +kernel) ⟨Nat.le_of_ble_eq_true rfl, Nat.le_of_ble_eq_true rfl⟩ (x_recv C (hR.rdH he169) rfl) rfl hl.1 rfl (Nat.le_of_ble_eq_true rfl) dX1_page_119 ⟨x_bud0 hk, x_bud0 hn⟩) hS (fun r166 X1 h1 H locs hq hR hS => ?_)
  clear hw
  obtain ⟨e1, e2, hw⟩ := hq
  rw [e1, e2] at hR
  refine lv_bipush (v := 8) hx hb dX1_page_122 (by decide) ?_
  refine lv_icmp_ne (tgt := 135) hx hb dX1_page_124 (by decide) (fun c170 => ?_) (fun c170 => ?_)
  · replace hw := hw.2 c170
    refine lv_aload_n hx hb dX1_page_135 rfl (lv_at hl 0 rfl) ?_
    refine x_get (ci := 0) (Cn := RX1) (T := TX1) (N := 27) (v := .ref (ad 0)) C (hR.rdX 0 rfl) rfl in_X1 0 (by decide) q393 (fun _ h9 => h9) rfl dX1_page_136 ?_
    obtain ⟨mc171, ms172, hmc171, hms172, hw⟩ := hw
    refine x_newH (ci := 6) (Cn := RX7) (T := TX7) (N := 3) (fs := [.null, .int 0, .int 0]) C hR hS rfl in_X7 tyX7_ok q647 q1101 q113 (by decide +kernel) (x_bud hk hmc171) (x_bud hn hms172) dX1_page_139 (fun q173 H hq175 hRn hS => ?_)
    obtain ⟨t174, ht176, hw⟩ := hw q173 hq175
    have hR := hRn t174 ht176
    obtain ⟨h177, eh177⟩ : ∃ z, z = x_hs h165 q173 t174 (.inr (6, [.null, .int 0, .int 0])) := ⟨_, rfl⟩
    rw [← eh177] at hR
    replace hw := hw h177 eh177
    have hk := x_budN hk hmc171
    have hn := x_budN hn hms172
    refine lv_dup hx hb dX1_page_142 rfl ?_
    refine x_aloadO hx hb dX1_page_143 (lv_at hl 3 rfl) ?_
    refine lv_iload_n hx hb dX1_page_145 rfl (lv_at hl 1 rfl) ?_
    refine lv_iload hx hb dX1_page_146 (lv_at hl 2 rfl) ?_
    obtain ⟨a178, ea178, hw⟩ := hw
    rw [ea178]
    refine x_callv0 (x_runIN (n := 3) (As := [.ref a178, .int p3, .int p4]) (b := q173) C hR hS (kX7_init l D N0 gp _ q173 a178 p3 p4 h177 _ hw) q1104 q113 q1102 q1103 rfl rfl rfl (by decide +kernel) ⟨Nat.le_of_ble_eq_true rfl, Nat.le_of_ble_eq_true rfl⟩ rfl hl.1 rfl (Nat.le_of_ble_eq_true rfl) dX1_page_148 ⟨x_bud0 hk, x_bud0 hn⟩) hS (fun X1 h179 H locs hq hR hS => ?_)
    clear hw
    obtain ⟨e1, hw⟩ := hq
    rw [e1] at hR
    obtain ⟨t186, fs187, he188, hw⟩ := hw
    obtain ⟨ca181, cb182, mc183, ms184, hca181, hcb182, hw⟩ := hw
    refine x_calli (x_runV (n := 1) (As := [.ref q173]) C hR hS (kJ2_add l D N0 gp _ (ad 0) q173 h179 ca181 cb182 _ hw) (lw_V q353 q177 q178 q88 q179) rfl rfl (by decide +kernel) ⟨Nat.le_of_ble_eq_true rfl, Nat.le_of_ble_eq_true rfl⟩ (x_recv C (hR.rdH he188) rfl) rfl hl.1 rfl (Nat.le_of_ble_eq_true rfl) dX1_page_151 ⟨x_bud hk hca181, x_bud hn hcb182⟩) hS (fun r180 X1 h185 H locs hq hR hS => ?_)
    clear hw
    obtain ⟨e1, hw⟩ := hq
    rw [e1] at hR
    have hk := x_budN hk hca181
    have hn := x_budN hn hcb182
    refine lv_pop hx hb dX1_page_154 rfl ?_
    refine lv_aload_n hx hb dX1_page_155 rfl (lv_at hl 0 rfl) ?_
    refine x_get (ci := 0) (Cn := RX1) (T := TX1) (N := 27) (v := .ref (ad 0)) C (hR.rdX 0 rfl) rfl in_X1 0 (by decide) q393 (fun _ h9 => h9) rfl dX1_page_156 ?_
    obtain ⟨t190, fs191, he192, hw⟩ := hw
    refine x_calli0 (x_runV (n := 0) (As := []) C hR hS (kJ2_size l D N0 gp _ (ad 0) h185 _ hw) (lw_V q358 q359 q360 q88 q361) rfl rfl (by decide +kernel) ⟨Nat.le_of_ble_eq_true rfl, Nat.le_of_ble_eq_true rfl⟩ (x_recv C (hR.rdH he192) rfl) rfl hl.1 rfl (Nat.le_of_ble_eq_true rfl) dX1_page_159 ⟨x_bud0 hk, x_bud0 hn⟩) hS (fun r189 X1 h1 H locs hq hR hS => ?_)
    clear hw
    obtain ⟨e1, e2, hw⟩ := hq
    rw [e1, e2] at hR
    refine lv_iconst (v := 1) hx hb dX1_page_162 (by decide) ?_
    refine lv_isub hx hb dX1_page_163 ?_
    exact vx_ret (x_endi C hR hS ⟨_, rfl, ⟨_, _, rfl, hw⟩⟩ (x_le hk) (x_le hn) dX1_page_164)
  · replace hw := hw.1 c170
    obtain ⟨g193, g194, hw⟩ := hw
    exact x_throw C hlt (fun x hx => (hxt x hx).elim) hR hS _ x_at_ISE x_ag_ISE x_ao_ISE (by decide +kernel) q498 q112 hl.1 dX1_page_127 dX1_page_130 dX1_page_131 dX1_page_134 (Nat.le_of_ble_eq_true rfl) (Nat.le_of_ble_eq_true rfl) (x_bud1 hk g193) (x_bud1 hn g194) ⟨_, _, rfl, hw⟩ (x_bud1 hk g193) (x_bud1 hn g194)
def wX1_page_b59 (post : Int32 → (Nat → Int32) → (Nat → Nat → Int32) → x_H → Prop) (postX : String → (Nat → Int32) → (Nat → Nat → Int32) → x_H → Prop) (gp : Nat → Nat) (ad : Nat → Nat) (p1 : Int32) (p2 : Int32) (p3 : Int32) (p4 : Int32) (F : (Nat → Int32)) (M : (Nat → Nat → Int32)) (h : x_H) (mc : Nat) (ms : Nat) (s0 : Int32) : Prop :=
  ∃ ca109 cb110 mc111 ms112 : Nat, ca109 + mc111 ≤ mc ∧ cb110 + ms112 ≤ ms ∧ wX1_need (fun F113 M113 h114 => ∃ mc115 ms116 : Nat, 1 + mc115 ≤ mc111 ∧ 4 + ms116 ≤ ms112 ∧ ∀ q117 : Nat, h114 q117 = none → ∃ t118 : Nat, t118 ≠ 1 ∧ ∀ h121 : x_H, h121 = x_hs h114 q117 t118 (.inr (8, [.null, .int 0, .int 0, .int 0])) → ∃ ca122 cb123 mc124 ms125 : Nat, ca122 + mc124 ≤ mc115 ∧ cb123 + ms125 ≤ ms116 ∧ wJ8_init (fun h126 => ∃ (t133 : Nat) (fs134 : List Value), h126 q117 = some (t133, .inr (8, fs134)) ∧ ∃ ca128 cb129 mc130 ms131 : Nat, ca128 + mc130 ≤ mc124 ∧ cb129 + ms131 ≤ ms125 ∧ wJ8_append_3 (fun r127 h132 => ∃ ca136 cb137 mc138 ms139 : Nat, ca136 + mc138 ≤ mc130 ∧ cb137 + ms139 ≤ ms131 ∧ wX1_append (fun F140 M140 h141 => ∃ ca142 cb143 mc144 ms145 : Nat, ca142 + mc144 ≤ mc138 ∧ cb143 + ms145 ≤ ms139 ∧ wX1_append (fun F146 M146 h147 => ∃ (t154 : Nat) (fs155 : List Value), h147 q117 = some (t154, .inr (8, fs155)) ∧ ∃ ca149 cb150 mc151 ms152 : Nat, ca149 + mc151 ≤ mc144 ∧ cb150 + ms152 ≤ ms145 ∧ wJ8_toString (fun r148 h153 => ∃ a157 : Nat, r148 = some a157 ∧ wX1_pageAt (fun r158 => (r158 = none → wX1_page_b112 post postX gp ad p1 p2 p3 p4 F146 M146 h153 mc151 ms152 r148 1) ∧ (∀ a159 : Nat, r158 = some a159 → wX1_page_b112 post postX gp ad p1 p2 p3 p4 F146 M146 h153 mc151 ms152 r148 0)) ad a157 F146 M146 h153) q117 h147 ca149 cb150) ad q117 p2 F140 M140 h141 ca142 cb143) ad q117 p1 F113 M113 h132 ca136 cb137) q117 47 h126 ca128 cb129) q117 h121 ca122 cb123) postX ad s0 F M h ca109 cb110
theorem kX1_page_b59 {post : Int32 → (Nat → Int32) → (Nat → Nat → Int32) → x_H → Prop} {postX : String → (Nat → Int32) → (Nat → Nat → Int32) → x_H → Prop} {p1 : Int32} {p2 : Int32} {p3 : Int32} {p4 : Int32} (C : x_C p s m args meth c cX1_page 7 (some .int) RX1 D N0 gp) (hlt : l.stackTraces = false) (hxt : ∀ x ∈ c.exceptionTable.toList, False) {F : (Nat → Int32)} {M : (Nat → Nat → Int32)} {h : x_H} {mc : Nat} {ms : Nat} {s0 : Int32} {k n : Nat} {H : Heap} {locs : List Loc} {ls : Array Slot} (hR : x_R D s N0 (fixC ad F M ++ XF) h H) (hS : va_S (x_A N0) s.heap H locs) (hk : k + mc ≤ mc0) (hn : n + ms ≤ ms0) (hl : lv_has ls 7 [(0, .ref (ad 1000)), (1, .int p1), (2, .int p2), (3, .int p3), (4, .int p4)]) (hw : wX1_page_b59 post postX gp ad p1 p2 p3 p4 F M h mc ms s0) : W p l e (rmX1_page mc0 ms0) s m args below meth c H locs k n (vx_MQ below (x_Qc D N0 (x_Vi (qCi ad XF post))) (x_XC D N0 (qXC ad XF postX)) args s mc0 ms0 (x_A N0)) (F0 m 59 ls [.int s0]) := by
  obtain ⟨⟨hx, hb, hml, hown, hts⟩, hr, hlocks, hG, hN⟩ := id C
  unfold wX1_page_b59 at hw
  obtain ⟨ca109, cb110, mc111, ms112, hca109, hcb110, hw⟩ := hw
  refine x_callXv (x_runSX (n := 1) (As := [.int s0]) C hR hS (kX1_need l D N0 gp ad XF s0 F M h ca109 cb110 _ _ hlt hw) (lw_S q1091 q1092 q85 q1093) rfl rfl (by decide +kernel) ⟨Nat.le_of_ble_eq_true rfl, Nat.le_of_ble_eq_true rfl⟩ rfl hl.1 rfl (Nat.le_of_ble_eq_true rfl) dX1_page_59 ⟨x_bud hk hca109, x_bud hn hcb110⟩) hS (fun E9 ce9 q9 X9 h9 H9 locs9 hq9 hR9 hS9 hce9 hcv9 hcl9 => by obtain ⟨F9, M9, e9, hq9⟩ := hq9; rw [e9] at hR9; exact x_outX C hxt hR9 hS9 ⟨_, _, rfl, hq9⟩ hce9 hcv9 hcl9 (x_bud hk hca109) (x_bud hn hcb110)) (fun X1 h114 H locs hq hR hS => ?_)
  clear hw
  obtain ⟨F113, M113, e1, hw⟩ := hq
  rw [e1] at hR
  have hk := x_budN hk hca109
  have hn := x_budN hn hcb110
  obtain ⟨mc115, ms116, hmc115, hms116, hw⟩ := hw
  refine x_newH (ci := 8) (Cn := RJ8) (T := TJ8) (N := 4) (fs := [.null, .int 0, .int 0, .int 0]) C hR hS rfl in_J8 tyJ8_ok q1094 q264 q98 (by decide +kernel) (x_bud hk hmc115) (x_bud hn hms116) dX1_page_62 (fun q117 H hq119 hRn hS => ?_)
  obtain ⟨t118, ht120, hw⟩ := hw q117 hq119
  have hR := hRn t118 ht120
  obtain ⟨h121, eh121⟩ : ∃ z, z = x_hs h114 q117 t118 (.inr (8, [.null, .int 0, .int 0, .int 0])) := ⟨_, rfl⟩
  rw [← eh121] at hR
  replace hw := hw h121 eh121
  have hk := x_budN hk hmc115
  have hn := x_budN hn hms116
  refine lv_dup hx hb dX1_page_65 rfl ?_
  obtain ⟨ca122, cb123, mc124, ms125, hca122, hcb123, hw⟩ := hw
  refine x_callv (x_runI (n := 0) (As := []) (b := q117) C hR hS (kJ8_init l D N0 gp _ q117 h121 ca122 cb123 _ hw) q267 q98 q1095 q266 rfl rfl rfl (by decide +kernel) ⟨Nat.le_of_ble_eq_true rfl, Nat.le_of_ble_eq_true rfl⟩ rfl hl.1 rfl (Nat.le_of_ble_eq_true rfl) dX1_page_66 ⟨x_bud hk hca122, x_bud hn hcb123⟩) hS (fun X1 h126 H locs hq hR hS => ?_)
  clear hw
  obtain ⟨e1, hw⟩ := hq
  rw [e1] at hR
  have hk := x_budN hk hca122
  have hn := x_budN hn hcb123
  refine lv_astore (lv' := [(5, .ref q117), (0, .ref (ad 1000)), (1, .int p1), (2, .int p2), (3, .int p3), (4, .int p4)]) hx hb dX1_page_69 hl (by decide) rfl (fun ls hl => ?_)
  refine lv_aload hx hb dX1_page_71 (lv_at hl 0 rfl) ?_
  refine lv_bipush (v := 47) hx hb dX1_page_73 (by decide) ?_
  obtain ⟨t133, fs134, he135, hw⟩ := hw
  obtain ⟨ca128, cb129, mc130, ms131, hca128, hcb129, hw⟩ := hw
  refine x_calla (x_runV (n := 1) (As := [.int 47]) C hR hS (kJ8_append_3 l D N0 gp _ q117 47 h126 ca128 cb129 _ hw) (lw_V q1096 q930 q931 q98 q932) rfl rfl (by decide +kernel) ⟨Nat.le_of_ble_eq_true rfl, Nat.le_of_ble_eq_true rfl⟩ (x_recv C (hR.rdH he135) rfl) rfl hl.1 rfl (Nat.le_of_ble_eq_true rfl) dX1_page_75 ⟨x_bud hk hca128, x_bud hn hcb129⟩) hS (fun r127 X1 h132 H locs hq hR hS => ?_)
  clear hw
  obtain ⟨e1, hw⟩ := hq
  rw [e1] at hR
  have hk := x_budN hk hca128
  have hn := x_budN hn hcb129
  refine lv_pop hx hb dX1_page_78 (x_cat1 _) ?_
  refine lv_aload hx hb dX1_page_79 (lv_at hl 0 rfl) ?_
  refine lv_iload_n hx hb dX1_page_81 rfl (lv_at hl 2 rfl) ?_
  obtain ⟨ca136, cb137, mc138, ms139, hca136, hcb137, hw⟩ := hw
  refine x_callv (x_runS (n := 2) (As := [.ref q117, .int p1]) C hR hS (kX1_append l D N0 gp ad XF q117 p1 F113 M113 h132 ca136 cb137 _ hw) (lw_S q1097 q1098 q85 q1099) rfl rfl (by decide +kernel) ⟨Nat.le_of_ble_eq_true rfl, Nat.le_of_ble_eq_true rfl⟩ rfl hl.1 rfl (Nat.le_of_ble_eq_true rfl) dX1_page_82 ⟨x_bud hk hca136, x_bud hn hcb137⟩) hS (fun X1 h141 H locs hq hR hS => ?_)
  clear hw
  obtain ⟨F140, M140, e1, hw⟩ := hq
  rw [e1] at hR
  have hk := x_budN hk hca136
  have hn := x_budN hn hcb137
  refine lv_aload hx hb dX1_page_85 (lv_at hl 0 rfl) ?_
  refine lv_iload_n hx hb dX1_page_87 rfl (lv_at hl 3 rfl) ?_
  obtain ⟨ca142, cb143, mc144, ms145, hca142, hcb143, hw⟩ := hw
  refine x_callv (x_runS (n := 2) (As := [.ref q117, .int p2]) C hR hS (kX1_append l D N0 gp ad XF q117 p2 F140 M140 h141 ca142 cb143 _ hw) (lw_S q1097 q1098 q85 q1099) rfl rfl (by decide +kernel) ⟨Nat.le_of_ble_eq_true rfl, Nat.le_of_ble_eq_true rfl⟩ rfl hl.1 rfl (Nat.le_of_ble_eq_true rfl) dX1_page_88 ⟨x_bud hk hca142, x_bud hn hcb143⟩) hS (fun X1 h147 H locs hq hR hS => ?_)
  clear hw
  obtain ⟨F146, M146, e1, hw⟩ := hq
  rw [e1] at hR
  have hk := x_budN hk hca142
  have hn := x_budN hn hcb143
  refine lv_aload hx hb dX1_page_91 (lv_at hl 0 rfl) ?_
  obtain ⟨t154, fs155, he156, hw⟩ := hw
  obtain ⟨ca149, cb150, mc151, ms152, hca149, hcb150, hw⟩ := hw
  refine x_calla (x_runV (n := 0) (As := []) C hR hS (kJ8_toString l D N0 gp _ q117 h147 ca149 cb150 _ hw) (lw_V q1100 q852 q853 q98 q854) rfl rfl (by decide +kernel) ⟨Nat.le_of_ble_eq_true rfl, Nat.le_of_ble_eq_true rfl⟩ (x_recv C (hR.rdH he156) rfl) rfl hl.1 rfl (Nat.le_of_ble_eq_true rfl) dX1_page_93 ⟨x_bud hk hca149, x_bud hn hcb150⟩) hS (fun r148 X1 h153 H locs hq hR hS => ?_)
  clear hw
  obtain ⟨e1, hw⟩ := hq
  rw [e1] at hR
  have hk := x_budN hk hca149
  have hn := x_budN hn hcb150
  refine x_astoreO (lv' := [(6, va_rf r148), (5, .ref q117), (0, .ref (ad 1000)), (1, .int p1), (2, .int p2), (3, .int p3), (4, .int p4)]) hx hb dX1_page_96 hl (by decide) rfl (fun ls hl => ?_)
  refine lv_aload_n hx hb dX1_page_98 rfl (lv_at hl 2 rfl) ?_
  refine x_aloadO hx hb dX1_page_99 (lv_at hl 0 rfl) ?_
  obtain ⟨a157, ea157, hw⟩ := hw
  rw [ea157]
  refine x_calla0 (x_runV (n := 1) (As := [.ref a157]) C hR hS (kX1_pageAt l D N0 gp ad XF a157 F146 M146 h153 _ hw) (lw_V q643 q645 qs22 q85 q646) rfl rfl (by decide +kernel) ⟨Nat.le_of_ble_eq_true rfl, Nat.le_of_ble_eq_true rfl⟩ (x_recv C (hR.rdX 0 rfl) rfl) rfl hl.1 rfl (Nat.le_of_ble_eq_true rfl) dX1_page_101 ⟨x_bud0 hk, x_bud0 hn⟩) hS (fun r158 X1 h1 H locs hq hR hS => ?_)
  clear hw
  obtain ⟨e1, e2, hw⟩ := hq
  rw [e1, e2] at hR
  cases r158 with
  | none =>
    replace hw := hw.1 rfl
    refine lv_ifnonnullN hx hb dX1_page_104 ?_
    refine lv_iconst (v := 1) hx hb dX1_page_107 (by decide) ?_
    refine lv_goto (tgt := 112) hx hb dX1_page_108 (by decide) ?_
    exact kX1_page_b112 C hlt hxt hR hS hk hn (lv_sub hl [2, 5, 6, 0] rfl) hw
  | some a159 =>
    replace hw := hw.2 a159 rfl
    refine lv_ifnonnull (tgt := 111) hx hb dX1_page_104 (by decide) ?_
    refine lv_iconst (v := 0) hx hb dX1_page_111 (by decide) ?_
    exact kX1_page_b112 C hlt hxt hR hS hk hn (lv_sub hl [2, 5, 6, 0] rfl) hw
def wX1_page_b58 (post : Int32 → (Nat → Int32) → (Nat → Nat → Int32) → x_H → Prop) (postX : String → (Nat → Int32) → (Nat → Nat → Int32) → x_H → Prop) (gp : Nat → Nat) (ad : Nat → Nat) (p1 : Int32) (p2 : Int32) (p3 : Int32) (p4 : Int32) (F : (Nat → Int32)) (M : (Nat → Nat → Int32)) (h : x_H) (mc : Nat) (ms : Nat) : Prop :=
  wX1_page_b59 post postX gp ad p1 p2 p3 p4 F M h mc ms 0
theorem kX1_page_b58 {post : Int32 → (Nat → Int32) → (Nat → Nat → Int32) → x_H → Prop} {postX : String → (Nat → Int32) → (Nat → Nat → Int32) → x_H → Prop} {p1 : Int32} {p2 : Int32} {p3 : Int32} {p4 : Int32} (C : x_C p s m args meth c cX1_page 7 (some .int) RX1 D N0 gp) (hlt : l.stackTraces = false) (hxt : ∀ x ∈ c.exceptionTable.toList, False) {F : (Nat → Int32)} {M : (Nat → Nat → Int32)} {h : x_H} {mc : Nat} {ms : Nat} {k n : Nat} {H : Heap} {locs : List Loc} {ls : Array Slot} (hR : x_R D s N0 (fixC ad F M ++ XF) h H) (hS : va_S (x_A N0) s.heap H locs) (hk : k + mc ≤ mc0) (hn : n + ms ≤ ms0) (hl : lv_has ls 7 [(0, .ref (ad 1000)), (1, .int p1), (2, .int p2), (3, .int p3), (4, .int p4)]) (hw : wX1_page_b58 post postX gp ad p1 p2 p3 p4 F M h mc ms) : W p l e (rmX1_page mc0 ms0) s m args below meth c H locs k n (vx_MQ below (x_Qc D N0 (x_Vi (qCi ad XF post))) (x_XC D N0 (qXC ad XF postX)) args s mc0 ms0 (x_A N0)) (F0 m 58 ls []) := by
  obtain ⟨⟨hx, hb, hml, hown, hts⟩, hr, hlocks, hG, hN⟩ := id C
  unfold wX1_page_b58 at hw
  refine lv_iconst (v := 0) hx hb dX1_page_58 (by decide) ?_
  exact kX1_page_b59 C hlt hxt hR hS hk hn (lv_sub hl [0, 1, 2, 3, 4] rfl) hw
def wX1_page_b32 (post : Int32 → (Nat → Int32) → (Nat → Nat → Int32) → x_H → Prop) (postX : String → (Nat → Int32) → (Nat → Nat → Int32) → x_H → Prop) (gp : Nat → Nat) (ad : Nat → Nat) (p1 : Int32) (p2 : Int32) (p3 : Int32) (p4 : Int32) (F : (Nat → Int32)) (M : (Nat → Nat → Int32)) (h : x_H) (mc : Nat) (ms : Nat) : Prop :=
  wX1_outside (fun r105 => (r105 = 0 → wX1_outside (fun r107 => (r107 = 0 → wX1_page_b59 post postX gp ad p1 p2 p3 p4 F M h mc ms 1) ∧ (¬ r107 = 0 → wX1_page_b58 post postX gp ad p1 p2 p3 p4 F M h mc ms)) p4 0 255) ∧ (¬ r105 = 0 → wX1_page_b58 post postX gp ad p1 p2 p3 p4 F M h mc ms)) p3 0 60
theorem kX1_page_b32 {post : Int32 → (Nat → Int32) → (Nat → Nat → Int32) → x_H → Prop} {postX : String → (Nat → Int32) → (Nat → Nat → Int32) → x_H → Prop} {p1 : Int32} {p2 : Int32} {p3 : Int32} {p4 : Int32} (C : x_C p s m args meth c cX1_page 7 (some .int) RX1 D N0 gp) (hlt : l.stackTraces = false) (hxt : ∀ x ∈ c.exceptionTable.toList, False) {F : (Nat → Int32)} {M : (Nat → Nat → Int32)} {h : x_H} {mc : Nat} {ms : Nat} {k n : Nat} {H : Heap} {locs : List Loc} {ls : Array Slot} (hR : x_R D s N0 (fixC ad F M ++ XF) h H) (hS : va_S (x_A N0) s.heap H locs) (hk : k + mc ≤ mc0) (hn : n + ms ≤ ms0) (hl : lv_has ls 7 [(0, .ref (ad 1000)), (1, .int p1), (2, .int p2), (3, .int p3), (4, .int p4)]) (hw : wX1_page_b32 post postX gp ad p1 p2 p3 p4 F M h mc ms) : W p l e (rmX1_page mc0 ms0) s m args below meth c H locs k n (vx_MQ below (x_Qc D N0 (x_Vi (qCi ad XF post))) (x_XC D N0 (qXC ad XF postX)) args s mc0 ms0 (x_A N0)) (F0 m 32 ls []) := by
  obtain ⟨⟨hx, hb, hml, hown, hts⟩, hr, hlocks, hG, hN⟩ := id C
  unfold wX1_page_b32 at hw
  refine lv_iload_n hx hb dX1_page_32 rfl (lv_at hl 3 rfl) ?_
  refine lv_iconst (v := 0) hx hb dX1_page_33 (by decide) ?_
  refine lv_bipush (v := 60) hx hb dX1_page_34 (by decide) ?_
  refine x_calli0 (x_runS (n := 3) (As := [.int p3, .int 0, .int 60]) C hR hS (kX1_outside l D N0 gp _ _ p3 0 60 _ hw) (lw_S q480 q481 q85 q482) rfl rfl (by decide +kernel) ⟨Nat.le_of_ble_eq_true rfl, Nat.le_of_ble_eq_true rfl⟩ rfl hl.1 rfl (Nat.le_of_ble_eq_true rfl) dX1_page_36 ⟨x_bud0 hk, x_bud0 hn⟩) hS (fun r105 X1 h1 H locs hq hR hS => ?_)
  clear hw
  obtain ⟨e1, e2, hw⟩ := hq
  rw [e1, e2] at hR
  refine lv_if_ne (tgt := 58) hx hb dX1_page_39 (by decide) (fun c106 => ?_) (fun c106 => ?_)
  · replace hw := hw.2 c106
    exact kX1_page_b58 C hlt hxt hR hS hk hn (lv_sub hl [0, 1, 2, 3, 4] rfl) hw
  · replace hw := hw.1 c106
    refine lv_iload hx hb dX1_page_42 (lv_at hl 4 rfl) ?_
    refine lv_iconst (v := 0) hx hb dX1_page_44 (by decide) ?_
    refine lv_sipush (v := 255) hx hb dX1_page_45 (by decide) ?_
    refine x_calli0 (x_runS (n := 3) (As := [.int p4, .int 0, .int 255]) C hR hS (kX1_outside l D N0 gp _ _ p4 0 255 _ hw) (lw_S q480 q481 q85 q482) rfl rfl (by decide +kernel) ⟨Nat.le_of_ble_eq_true rfl, Nat.le_of_ble_eq_true rfl⟩ rfl hl.1 rfl (Nat.le_of_ble_eq_true rfl) dX1_page_48 ⟨x_bud0 hk, x_bud0 hn⟩) hS (fun r107 X1 h1 H locs hq hR hS => ?_)
    clear hw
    obtain ⟨e1, e2, hw⟩ := hq
    rw [e1, e2] at hR
    refine lv_if_ne (tgt := 58) hx hb dX1_page_51 (by decide) (fun c108 => ?_) (fun c108 => ?_)
    · replace hw := hw.2 c108
      exact kX1_page_b58 C hlt hxt hR hS hk hn (lv_sub hl [0, 1, 2, 3, 4] rfl) hw
    · replace hw := hw.1 c108
      refine lv_iconst (v := 1) hx hb dX1_page_54 (by decide) ?_
      refine lv_goto (tgt := 59) hx hb dX1_page_55 (by decide) ?_
      exact kX1_page_b59 C hlt hxt hR hS hk hn (lv_sub hl [0, 1, 2, 3, 4] rfl) hw
end
def wX1_page (post : Int32 → (Nat → Int32) → (Nat → Nat → Int32) → x_H → Prop) (postX : String → (Nat → Int32) → (Nat → Nat → Int32) → x_H → Prop) (gp : Nat → Nat) (ad : Nat → Nat) (p1 : Int32) (p2 : Int32) (p3 : Int32) (p4 : Int32) (F : (Nat → Int32)) (M : (Nat → Nat → Int32)) (h : x_H) (mc : Nat) (ms : Nat) : Prop :=
  wX1_isText (fun r98 => (r98 = 0 → wX1_page_b58 post postX gp ad p1 p2 p3 p4 F M h mc ms) ∧ (¬ r98 = 0 → wX1_isText (fun r100 => (r100 = 0 → wX1_page_b58 post postX gp ad p1 p2 p3 p4 F M h mc ms) ∧ (¬ r100 = 0 → (((p2.toUInt32 >>> ((24 : Int32).toUInt32 &&& Int32.toUInt32 31)).toInt32) = 0 → (p2 = 0 → wX1_page_b32 post postX gp ad p1 p2 p3 p4 F M h mc ms) ∧ (¬ p2 = 0 → (((p1.toUInt32 >>> ((24 : Int32).toUInt32 &&& Int32.toUInt32 31)).toInt32) = 0 → wX1_page_b58 post postX gp ad p1 p2 p3 p4 F M h mc ms) ∧ (¬ ((p1.toUInt32 >>> ((24 : Int32).toUInt32 &&& Int32.toUInt32 31)).toInt32) = 0 → wX1_page_b32 post postX gp ad p1 p2 p3 p4 F M h mc ms))) ∧ (¬ ((p2.toUInt32 >>> ((24 : Int32).toUInt32 &&& Int32.toUInt32 31)).toInt32) = 0 → wX1_page_b58 post postX gp ad p1 p2 p3 p4 F M h mc ms))) p2)) p1
theorem kX1_page (l : Launch) (D : va_G) (N0 : Nat) (gp : Nat → Nat) (ad : Nat → Nat) (XF : x_X) (p1 : Int32) (p2 : Int32) (p3 : Int32) (p4 : Int32) (F : (Nat → Int32)) (M : (Nat → Nat → Int32)) (h : x_H) (mc : Nat) (ms : Nat) (post : Int32 → (Nat → Int32) → (Nat → Nat → Int32) → x_H → Prop) (postX : String → (Nat → Int32) → (Nat → Nat → Int32) → x_H → Prop) (hlt : l.stackTraces = false) (hw : wX1_page post postX gp ad p1 p2 p3 p4 F M h mc ms) : vx_Met l yX1_page (ws_ yX1_page cX1_page 7 (some .int)) (rmX1_page mc ms) (x_Pc D N0 gp (fixC ad F M ++ XF) h [.ref (ad 1000), .int p1, .int p2, .int p3, .int p4]) (x_Qc D N0 (x_Vi (qCi ad XF post))) (x_XC D N0 (qXC ad XF postX)) mc ms (x_A N0) := by
  refine x_startX (lv := [(0, .ref (ad 1000)), (1, .int p1), (2, .int p2), (3, .int p3), (4, .int p4)]) (by decide) rfl (Nat.le_of_ble_eq_true rfl) rfl ?_
  intro p e s m below meth c C hxt hR ls hl
  have hS : va_S (x_A N0) s.heap s.heap [] := va_S.rf
  obtain ⟨⟨hx, hb, hml, hown, hts⟩, hr, hlocks, hG, hN⟩ := id C
  unfold wX1_page at hw
  have hk : 0 + mc ≤ mc := Nat.le_of_eq (Nat.zero_add _)
  have hn : 0 + ms ≤ ms := Nat.le_of_eq (Nat.zero_add _)
  refine lv_iload_n hx hb dX1_page_0 rfl (lv_at hl 1 rfl) ?_
  refine x_calli0 (x_runS (n := 1) (As := [.int p1]) C hR hS (kX1_isText l D N0 gp _ _ p1 _ hw) (lw_S q1088 q1089 q85 q1090) rfl rfl (by decide +kernel) ⟨Nat.le_of_ble_eq_true rfl, Nat.le_of_ble_eq_true rfl⟩ rfl hl.1 rfl (Nat.le_of_ble_eq_true rfl) dX1_page_1 ⟨x_bud0 hk, x_bud0 hn⟩) hS (fun r98 X1 h1 H locs hq hR hS => ?_)
  clear hw
  obtain ⟨e1, e2, hw⟩ := hq
  rw [e1, e2] at hR
  refine lv_if_eq (tgt := 58) hx hb dX1_page_4 (by decide) (fun c99 => ?_) (fun c99 => ?_)
  · replace hw := hw.1 c99
    exact kX1_page_b58 C hlt hxt hR hS hk hn (lv_sub hl [0, 1, 2, 3, 4] rfl) hw
  · replace hw := hw.2 c99
    refine lv_iload_n hx hb dX1_page_7 rfl (lv_at hl 2 rfl) ?_
    refine x_calli0 (x_runS (n := 1) (As := [.int p2]) C hR hS (kX1_isText l D N0 gp _ _ p2 _ hw) (lw_S q1088 q1089 q85 q1090) rfl rfl (by decide +kernel) ⟨Nat.le_of_ble_eq_true rfl, Nat.le_of_ble_eq_true rfl⟩ rfl hl.1 rfl (Nat.le_of_ble_eq_true rfl) dX1_page_8 ⟨x_bud0 hk, x_bud0 hn⟩) hS (fun r100 X1 h1 H locs hq hR hS => ?_)
    clear hw
    obtain ⟨e1, e2, hw⟩ := hq
    rw [e1, e2] at hR
    refine lv_if_eq (tgt := 58) hx hb dX1_page_11 (by decide) (fun c101 => ?_) (fun c101 => ?_)
    · replace hw := hw.1 c101
      exact kX1_page_b58 C hlt hxt hR hS hk hn (lv_sub hl [0, 1, 2, 3, 4] rfl) hw
    · replace hw := hw.2 c101
      refine lv_iload_n hx hb dX1_page_14 rfl (lv_at hl 2 rfl) ?_
      refine lv_bipush (v := 24) hx hb dX1_page_15 (by decide) ?_
      refine lv_iushr hx hb dX1_page_17 rfl ?_
      refine lv_if_ne (tgt := 58) hx hb dX1_page_18 (by decide) (fun c102 => ?_) (fun c102 => ?_)
      · replace hw := hw.2 c102
        exact kX1_page_b58 C hlt hxt hR hS hk hn (lv_sub hl [0, 1, 2, 3, 4] rfl) hw
      · replace hw := hw.1 c102
        refine lv_iload_n hx hb dX1_page_21 rfl (lv_at hl 2 rfl) ?_
        refine lv_if_eq (tgt := 32) hx hb dX1_page_22 (by decide) (fun c103 => ?_) (fun c103 => ?_)
        · replace hw := hw.1 c103
          exact kX1_page_b32 C hlt hxt hR hS hk hn (lv_sub hl [0, 1, 2, 3, 4] rfl) hw
        · replace hw := hw.2 c103
          refine lv_iload_n hx hb dX1_page_25 rfl (lv_at hl 1 rfl) ?_
          refine lv_bipush (v := 24) hx hb dX1_page_26 (by decide) ?_
          refine lv_iushr hx hb dX1_page_28 rfl ?_
          refine lv_if_eq (tgt := 58) hx hb dX1_page_29 (by decide) (fun c104 => ?_) (fun c104 => ?_)
          · replace hw := hw.1 c104
            exact kX1_page_b58 C hlt hxt hR hS hk hn (lv_sub hl [0, 1, 2, 3, 4] rfl) hw
          · replace hw := hw.2 c104
            exact kX1_page_b32 C hlt hxt hR hS hk hn (lv_sub hl [0, 1, 2, 3, 4] rfl) hw
/-- PageServer.find(Z)V -/
abbrev rmX1_find (mc0 ms0 : Nat) : Room := { frames := 6, cells := mc0, slots := ms0, locals := 100 }
section
variable {p : Program} {l : Launch} {e : Env} {s : State} {m : MethodId} {args : Array Value} {below : List Frame} {meth : Method} {c : Code} {D : va_G} {N0 : Nat} {gp : Nat → Nat} {ad : Nat → Nat} {XF : x_X} {mc0 ms0 : Nat}
end
def wX1_find (post : (Nat → Int32) → (Nat → Nat → Int32) → x_H → Prop) (postX : String → (Nat → Int32) → (Nat → Nat → Int32) → x_H → Prop) (ad : Nat → Nat) (p0 : Int32) (F : (Nat → Int32)) (M : (Nat → Nat → Int32)) (h : x_H) (mc : Nat) (ms : Nat) : Prop :=
  (p0 = 0 → 1 ≤ mc ∧ 6 ≤ ms ∧ postX "java/util/NoSuchElementException" F M h) ∧ (¬ p0 = 0 → post F M h)
theorem kX1_find (l : Launch) (D : va_G) (N0 : Nat) (gp : Nat → Nat) (ad : Nat → Nat) (XF : x_X) (p0 : Int32) (F : (Nat → Int32)) (M : (Nat → Nat → Int32)) (h : x_H) (mc : Nat) (ms : Nat) (post : (Nat → Int32) → (Nat → Nat → Int32) → x_H → Prop) (postX : String → (Nat → Int32) → (Nat → Nat → Int32) → x_H → Prop) (hlt : l.stackTraces = false) (hw : wX1_find post postX ad p0 F M h mc ms) : vx_Met l yX1_find (ws_ yX1_find cX1_find 1 none) (rmX1_find mc ms) (x_Pc D N0 gp (fixC ad F M ++ XF) h [.int p0]) (x_Qc D N0 (x_Vv (qCv ad XF post))) (x_XC D N0 (qXC ad XF postX)) mc ms (x_A N0) := by
  refine x_startX (lv := [(0, .int p0)]) (by decide) rfl (Nat.le_of_ble_eq_true rfl) rfl ?_
  intro p e s m below meth c C hxt hR ls hl
  have hS : va_S (x_A N0) s.heap s.heap [] := va_S.rf
  obtain ⟨⟨hx, hb, hml, hown, hts⟩, hr, hlocks, hG, hN⟩ := id C
  unfold wX1_find at hw
  have hk : 0 + mc ≤ mc := Nat.le_of_eq (Nat.zero_add _)
  have hn : 0 + ms ≤ ms := Nat.le_of_eq (Nat.zero_add _)
  refine lv_iload_n hx hb dX1_find_0 rfl (lv_at hl 0 rfl) ?_
  refine lv_if_ne (tgt := 12) hx hb dX1_find_1 (by decide) (fun c4 => ?_) (fun c4 => ?_)
  · replace hw := hw.2 c4
    exact vx_ret (x_endv C hR hS ⟨rfl, ⟨_, _, rfl, hw⟩⟩ (x_le hk) (x_le hn) dX1_find_12)
  · replace hw := hw.1 c4
    obtain ⟨g5, g6, hw⟩ := hw
    exact x_throw C hlt (fun x hx => (hxt x hx).elim) hR hS _ x_at_NSE x_ag_NSE x_ao_NSE (by decide +kernel) q1127 q114 hl.1 dX1_find_4 dX1_find_7 dX1_find_8 dX1_find_11 (Nat.le_of_ble_eq_true rfl) (Nat.le_of_ble_eq_true rfl) (x_bud1 hk g5) (x_bud1 hn g6) ⟨_, _, rfl, hw⟩ (x_bud1 hk g5) (x_bud1 hn g6)
/-- PageServer.out(I)I -/
abbrev rmX1_out (mc0 ms0 : Nat) : Room := { frames := 7, cells := mc0, slots := ms0, locals := 120 }
section
variable {p : Program} {l : Launch} {e : Env} {s : State} {m : MethodId} {args : Array Value} {below : List Frame} {meth : Method} {c : Code} {D : va_G} {N0 : Nat} {gp : Nat → Nat} {ad : Nat → Nat} {XF : x_X} {mc0 ms0 : Nat}
def wX1_out_b19 (post : Int32 → (Nat → Int32) → (Nat → Nat → Int32) → x_H → Prop) (postX : String → (Nat → Int32) → (Nat → Nat → Int32) → x_H → Prop) (ad : Nat → Nat) (p1 : Int32) (F : (Nat → Int32)) (M : (Nat → Nat → Int32)) (h : x_H) (mc : Nat) (ms : Nat) (s0 : Int32) : Prop :=
  ∃ ca12 cb13 mc14 ms15 : Nat, ca12 + mc14 ≤ mc ∧ cb13 + ms15 ≤ ms ∧ wX1_find (fun F16 M16 h17 => vp_in p1 1200 ∧ post (((M16 25) p1.toNatClampNeg) &&& 255) F16 M16 h17) postX ad s0 F M h ca12 cb13
theorem kX1_out_b19 {post : Int32 → (Nat → Int32) → (Nat → Nat → Int32) → x_H → Prop} {postX : String → (Nat → Int32) → (Nat → Nat → Int32) → x_H → Prop} {p1 : Int32} (C : x_C p s m args meth c cX1_out 2 (some .int) RX1 D N0 gp) (hlt : l.stackTraces = false) (hxt : ∀ x ∈ c.exceptionTable.toList, False) {F : (Nat → Int32)} {M : (Nat → Nat → Int32)} {h : x_H} {mc : Nat} {ms : Nat} {s0 : Int32} {k n : Nat} {H : Heap} {locs : List Loc} {ls : Array Slot} (hR : x_R D s N0 (fixC ad F M ++ XF) h H) (hS : va_S (x_A N0) s.heap H locs) (hk : k + mc ≤ mc0) (hn : n + ms ≤ ms0) (hl : lv_has ls 2 [(0, .ref (ad 1000)), (1, .int p1)]) (hw : wX1_out_b19 post postX ad p1 F M h mc ms s0) : W p l e (rmX1_out mc0 ms0) s m args below meth c H locs k n (vx_MQ below (x_Qc D N0 (x_Vi (qCi ad XF post))) (x_XC D N0 (qXC ad XF postX)) args s mc0 ms0 (x_A N0)) (F0 m 19 ls [.int s0]) := by
  obtain ⟨⟨hx, hb, hml, hown, hts⟩, hr, hlocks, hG, hN⟩ := id C
  unfold wX1_out_b19 at hw
  obtain ⟨ca12, cb13, mc14, ms15, hca12, hcb13, hw⟩ := hw
  refine x_callXv (x_runSX (n := 1) (As := [.int s0]) C hR hS (kX1_find l D N0 gp ad XF s0 F M h ca12 cb13 _ _ hlt hw) (lw_S q1124 q1125 q85 q1126) rfl rfl (by decide +kernel) ⟨Nat.le_of_ble_eq_true rfl, Nat.le_of_ble_eq_true rfl⟩ rfl hl.1 rfl (Nat.le_of_ble_eq_true rfl) dX1_out_19 ⟨x_bud hk hca12, x_bud hn hcb13⟩) hS (fun E9 ce9 q9 X9 h9 H9 locs9 hq9 hR9 hS9 hce9 hcv9 hcl9 => by obtain ⟨F9, M9, e9, hq9⟩ := hq9; rw [e9] at hR9; exact x_outX C hxt hR9 hS9 ⟨_, _, rfl, hq9⟩ hce9 hcv9 hcl9 (x_bud hk hca12) (x_bud hn hcb13)) (fun X1 h17 H locs hq hR hS => ?_)
  clear hw
  obtain ⟨F16, M16, e1, hw⟩ := hq
  rw [e1] at hR
  have hk := x_budN hk hca12
  have hn := x_budN hn hcb13
  refine lv_aload_n hx hb dX1_out_22 rfl (lv_at hl 0 rfl) ?_
  refine x_get (ci := 0) (Cn := RX1) (T := TX1) (N := 27) (v := .ref (ad 25)) C (hR.rdX 0 rfl) rfl in_X1 25 (by decide) q418 (fun _ h9 => h9) rfl dX1_out_23 ?_
  refine lv_iload_n hx hb dX1_out_26 rfl (lv_at hl 1 rfl) ?_
  obtain ⟨b18, hw⟩ := hw
  refine x_bald (n := 1200) (f := (M16 25)) C (hR.rdX 4 rfl) b18 dX1_out_27 ?_
  refine lv_sipush (v := 255) hx hb dX1_out_28 (by decide) ?_
  refine lv_iand hx hb dX1_out_31 ?_
  exact vx_ret (x_endi C hR hS ⟨_, rfl, ⟨_, _, rfl, hw⟩⟩ (x_le hk) (x_le hn) dX1_out_32)
end
def wX1_out (post : Int32 → (Nat → Int32) → (Nat → Nat → Int32) → x_H → Prop) (postX : String → (Nat → Int32) → (Nat → Nat → Int32) → x_H → Prop) (ad : Nat → Nat) (p1 : Int32) (F : (Nat → Int32)) (M : (Nat → Nat → Int32)) (h : x_H) (mc : Nat) (ms : Nat) : Prop :=
  wX1_outside (fun r10 => (r10 = 0 → wX1_out_b19 post postX ad p1 F M h mc ms 1) ∧ (¬ r10 = 0 → wX1_out_b19 post postX ad p1 F M h mc ms 0)) p1 0 ((F 26) - 1)
theorem kX1_out (l : Launch) (D : va_G) (N0 : Nat) (gp : Nat → Nat) (ad : Nat → Nat) (XF : x_X) (p1 : Int32) (F : (Nat → Int32)) (M : (Nat → Nat → Int32)) (h : x_H) (mc : Nat) (ms : Nat) (post : Int32 → (Nat → Int32) → (Nat → Nat → Int32) → x_H → Prop) (postX : String → (Nat → Int32) → (Nat → Nat → Int32) → x_H → Prop) (hlt : l.stackTraces = false) (hw : wX1_out post postX ad p1 F M h mc ms) : vx_Met l yX1_out (ws_ yX1_out cX1_out 2 (some .int)) (rmX1_out mc ms) (x_Pc D N0 gp (fixC ad F M ++ XF) h [.ref (ad 1000), .int p1]) (x_Qc D N0 (x_Vi (qCi ad XF post))) (x_XC D N0 (qXC ad XF postX)) mc ms (x_A N0) := by
  refine x_startX (lv := [(0, .ref (ad 1000)), (1, .int p1)]) (by decide) rfl (Nat.le_of_ble_eq_true rfl) rfl ?_
  intro p e s m below meth c C hxt hR ls hl
  have hS : va_S (x_A N0) s.heap s.heap [] := va_S.rf
  obtain ⟨⟨hx, hb, hml, hown, hts⟩, hr, hlocks, hG, hN⟩ := id C
  unfold wX1_out at hw
  have hk : 0 + mc ≤ mc := Nat.le_of_eq (Nat.zero_add _)
  have hn : 0 + ms ≤ ms := Nat.le_of_eq (Nat.zero_add _)
  refine lv_iload_n hx hb dX1_out_0 rfl (lv_at hl 1 rfl) ?_
  refine lv_iconst (v := 0) hx hb dX1_out_1 (by decide) ?_
  refine lv_aload_n hx hb dX1_out_2 rfl (lv_at hl 0 rfl) ?_
  refine x_get (ci := 0) (Cn := RX1) (T := TX1) (N := 27) (v := .int (F 26)) C (hR.rdX 0 rfl) rfl in_X1 26 (by decide) q419 (fun _ h9 => h9) rfl dX1_out_3 ?_
  refine lv_iconst (v := 1) hx hb dX1_out_6 (by decide) ?_
  refine lv_isub hx hb dX1_out_7 ?_
  refine x_calli0 (x_runS (n := 3) (As := [.int p1, .int 0, .int ((F 26) - 1)]) C hR hS (kX1_outside l D N0 gp _ _ p1 0 ((F 26) - 1) _ hw) (lw_S q480 q481 q85 q482) rfl rfl (by decide +kernel) ⟨Nat.le_of_ble_eq_true rfl, Nat.le_of_ble_eq_true rfl⟩ rfl hl.1 rfl (Nat.le_of_ble_eq_true rfl) dX1_out_8 ⟨x_bud0 hk, x_bud0 hn⟩) hS (fun r10 X1 h1 H locs hq hR hS => ?_)
  clear hw
  obtain ⟨e1, e2, hw⟩ := hq
  rw [e1, e2] at hR
  refine lv_if_ne (tgt := 18) hx hb dX1_out_11 (by decide) (fun c11 => ?_) (fun c11 => ?_)
  · replace hw := hw.2 c11
    refine lv_iconst (v := 0) hx hb dX1_out_18 (by decide) ?_
    exact kX1_out_b19 C hlt hxt hR hS hk hn (lv_sub hl [0, 1] rfl) hw
  · replace hw := hw.1 c11
    refine lv_iconst (v := 1) hx hb dX1_out_14 (by decide) ?_
    refine lv_goto (tgt := 19) hx hb dX1_out_15 (by decide) ?_
    exact kX1_out_b19 C hlt hxt hR hS hk hn (lv_sub hl [0, 1] rfl) hw
/-- PageServer.stream(II)I -/
abbrev rmX1_stream (mc0 ms0 : Nat) : Room := { frames := 7, cells := mc0, slots := ms0, locals := 120 }
section
variable {p : Program} {l : Launch} {e : Env} {s : State} {m : MethodId} {args : Array Value} {below : List Frame} {meth : Method} {c : Code} {D : va_G} {N0 : Nat} {gp : Nat → Nat} {ad : Nat → Nat} {XF : x_X} {mc0 ms0 : Nat}
def wX1_stream_b83 (post : Int32 → (Nat → Int32) → (Nat → Nat → Int32) → x_H → Prop) (postX : String → (Nat → Int32) → (Nat → Nat → Int32) → x_H → Prop) (ad : Nat → Nat) (p1 : Int32) (p2 : Int32) (F : (Nat → Int32)) (M : (Nat → Nat → Int32)) (h : x_H) (mc : Nat) (ms : Nat) (s0 : Int32) : Prop :=
  post s0 F M h
theorem kX1_stream_b83 {post : Int32 → (Nat → Int32) → (Nat → Nat → Int32) → x_H → Prop} {postX : String → (Nat → Int32) → (Nat → Nat → Int32) → x_H → Prop} {p1 : Int32} {p2 : Int32} (C : x_C p s m args meth c cX1_stream 4 (some .int) RX1 D N0 gp) (hlt : l.stackTraces = false) (hxt : ∀ x ∈ c.exceptionTable.toList, False) {F : (Nat → Int32)} {M : (Nat → Nat → Int32)} {h : x_H} {mc : Nat} {ms : Nat} {s0 : Int32} {k n : Nat} {H : Heap} {locs : List Loc} {ls : Array Slot} (hR : x_R D s N0 (fixC ad F M ++ XF) h H) (hS : va_S (x_A N0) s.heap H locs) (hk : k + mc ≤ mc0) (hn : n + ms ≤ ms0) (hl : lv_has ls 4 []) (hw : wX1_stream_b83 post postX ad p1 p2 F M h mc ms s0) : W p l e (rmX1_stream mc0 ms0) s m args below meth c H locs k n (vx_MQ below (x_Qc D N0 (x_Vi (qCi ad XF post))) (x_XC D N0 (qXC ad XF postX)) args s mc0 ms0 (x_A N0)) (F0 m 83 ls [.int s0]) := by
  obtain ⟨⟨hx, hb, hml, hown, hts⟩, hr, hlocks, hG, hN⟩ := id C
  unfold wX1_stream_b83 at hw
  exact vx_ret (x_endi C hR hS ⟨_, rfl, ⟨_, _, rfl, hw⟩⟩ (x_le hk) (x_le hn) dX1_stream_83)
def wX1_stream_b24 (post : Int32 → (Nat → Int32) → (Nat → Nat → Int32) → x_H → Prop) (postX : String → (Nat → Int32) → (Nat → Nat → Int32) → x_H → Prop) (ad : Nat → Nat) (p1 : Int32) (p2 : Int32) (F : (Nat → Int32)) (M : (Nat → Nat → Int32)) (h : x_H) (mc : Nat) (ms : Nat) (x3 : Option Nat) (s0 : Int32) : Prop :=
  ∃ ca28 cb29 mc30 ms31 : Nat, ca28 + mc30 ≤ mc ∧ cb29 + ms31 ≤ ms ∧ wX1_find (fun F32 M32 h33 => (p2 = 0 → ∃ a34 : Nat, x3 = some a34 ∧ ∃ y36 : Int32, x_f h33 a34 4 1 (.int y36) ∧ post y36 F32 M32 h33) ∧ (p2 = 1 → ∃ a37 : Nat, x3 = some a37 ∧ ∃ y39 : Int32, x_f h33 a37 4 4 (.int y39) ∧ post y39 F32 M32 h33) ∧ (p2 = 2 → ∃ a40 : Nat, x3 = some a40 ∧ ∃ y42 : Int32, x_f h33 a40 4 2 (.int y42) ∧ post y42 F32 M32 h33) ∧ (¬ p2 = 0 → ¬ p2 = 1 → ¬ p2 = 2 → ∃ a43 : Nat, x3 = some a43 ∧ ∃ y45 : Int32, x_f h33 a43 4 6 (.int y45) ∧ (y45 = 0 → wX1_stream_b83 post postX ad p1 p2 F32 M32 h33 mc30 ms31 0) ∧ (¬ y45 = 0 → wX1_stream_b83 post postX ad p1 p2 F32 M32 h33 mc30 ms31 1))) postX ad s0 F M h ca28 cb29
theorem kX1_stream_b24 {post : Int32 → (Nat → Int32) → (Nat → Nat → Int32) → x_H → Prop} {postX : String → (Nat → Int32) → (Nat → Nat → Int32) → x_H → Prop} {p1 : Int32} {p2 : Int32} (C : x_C p s m args meth c cX1_stream 4 (some .int) RX1 D N0 gp) (hlt : l.stackTraces = false) (hxt : ∀ x ∈ c.exceptionTable.toList, False) {F : (Nat → Int32)} {M : (Nat → Nat → Int32)} {h : x_H} {mc : Nat} {ms : Nat} {x3 : Option Nat} {s0 : Int32} {k n : Nat} {H : Heap} {locs : List Loc} {ls : Array Slot} (hR : x_R D s N0 (fixC ad F M ++ XF) h H) (hS : va_S (x_A N0) s.heap H locs) (hk : k + mc ≤ mc0) (hn : n + ms ≤ ms0) (hl : lv_has ls 4 [(2, .int p2), (3, va_rf x3)]) (hw : wX1_stream_b24 post postX ad p1 p2 F M h mc ms x3 s0) : W p l e (rmX1_stream mc0 ms0) s m args below meth c H locs k n (vx_MQ below (x_Qc D N0 (x_Vi (qCi ad XF post))) (x_XC D N0 (qXC ad XF postX)) args s mc0 ms0 (x_A N0)) (F0 m 24 ls [.int s0]) := by
  obtain ⟨⟨hx, hb, hml, hown, hts⟩, hr, hlocks, hG, hN⟩ := id C
  unfold wX1_stream_b24 at hw
  obtain ⟨ca28, cb29, mc30, ms31, hca28, hcb29, hw⟩ := hw
  refine x_callXv (x_runSX (n := 1) (As := [.int s0]) C hR hS (kX1_find l D N0 gp ad XF s0 F M h ca28 cb29 _ _ hlt hw) (lw_S q1124 q1125 q85 q1126) rfl rfl (by decide +kernel) ⟨Nat.le_of_ble_eq_true rfl, Nat.le_of_ble_eq_true rfl⟩ rfl hl.1 rfl (Nat.le_of_ble_eq_true rfl) dX1_stream_24 ⟨x_bud hk hca28, x_bud hn hcb29⟩) hS (fun E9 ce9 q9 X9 h9 H9 locs9 hq9 hR9 hS9 hce9 hcv9 hcl9 => by obtain ⟨F9, M9, e9, hq9⟩ := hq9; rw [e9] at hR9; exact x_outX C hxt hR9 hS9 ⟨_, _, rfl, hq9⟩ hce9 hcv9 hcl9 (x_bud hk hca28) (x_bud hn hcb29)) (fun X1 h33 H locs hq hR hS => ?_)
  clear hw
  obtain ⟨F32, M32, e1, hw⟩ := hq
  rw [e1] at hR
  have hk := x_budN hk hca28
  have hn := x_budN hn hcb29
  refine lv_iload_n hx hb dX1_stream_27 rfl (lv_at hl 0 rfl) ?_
  by_cases c28_0 : p2 = 0
  · replace hw := hw.1 c28_0
    refine lv_tableIn (tgt := 56) (off := 28) hx hb dX1_stream_28 (by rw [c28_0]; decide) (by rw [c28_0]; decide) (by rw [c28_0]; decide) (by decide) ?_
    refine x_aload_nO hx hb dX1_stream_56 rfl (lv_at hl 1 rfl) ?_
    obtain ⟨a34, ea34, hw⟩ := hw
    rw [ea34]
    obtain ⟨y36, hf35, hw⟩ := hw
    refine x_getHN (ci := 4) (Cn := RX5) (T := TX5) (N := 9) (k := 1) C hR hf35 rfl in_X5 (by decide) (x_nest C q322 rfl) (fun _ h9 => h9) dX1_stream_57 ?_
    exact vx_ret (x_endi C hR hS ⟨_, rfl, ⟨_, _, rfl, hw⟩⟩ (x_le hk) (x_le hn) dX1_stream_60)
  · skip
    by_cases c28_1 : p2 = 1
    · replace hw := hw.2.1 c28_1
      refine lv_tableIn (tgt := 61) (off := 33) hx hb dX1_stream_28 (by rw [c28_1]; decide) (by rw [c28_1]; decide) (by rw [c28_1]; decide) (by decide) ?_
      refine x_aload_nO hx hb dX1_stream_61 rfl (lv_at hl 1 rfl) ?_
      obtain ⟨a37, ea37, hw⟩ := hw
      rw [ea37]
      obtain ⟨y39, hf38, hw⟩ := hw
      refine x_getHN (ci := 4) (Cn := RX5) (T := TX5) (N := 9) (k := 4) C hR hf38 rfl in_X5 (by decide) (x_nest C q328 rfl) (fun _ h9 => h9) dX1_stream_62 ?_
      exact vx_ret (x_endi C hR hS ⟨_, rfl, ⟨_, _, rfl, hw⟩⟩ (x_le hk) (x_le hn) dX1_stream_65)
    · skip
      by_cases c28_2 : p2 = 2
      · replace hw := hw.2.2.1 c28_2
        refine lv_tableIn (tgt := 66) (off := 38) hx hb dX1_stream_28 (by rw [c28_2]; decide) (by rw [c28_2]; decide) (by rw [c28_2]; decide) (by decide) ?_
        refine x_aload_nO hx hb dX1_stream_66 rfl (lv_at hl 1 rfl) ?_
        obtain ⟨a40, ea40, hw⟩ := hw
        rw [ea40]
        obtain ⟨y42, hf41, hw⟩ := hw
        refine x_getHN (ci := 4) (Cn := RX5) (T := TX5) (N := 9) (k := 2) C hR hf41 rfl in_X5 (by decide) (x_nest C q324 rfl) (fun _ h9 => h9) dX1_stream_67 ?_
        exact vx_ret (x_endi C hR hS ⟨_, rfl, ⟨_, _, rfl, hw⟩⟩ (x_le hk) (x_le hn) dX1_stream_70)
      · skip
        replace hw := hw.2.2.2 c28_0 c28_1 c28_2
        have tc28_0 := lv_neT (a := 0) c28_0 (by decide)
        have tc28_1 := lv_neT (a := 1) c28_1 (by decide)
        have tc28_2 := lv_neT (a := 2) c28_2 (by decide)
        refine lv_tableOut (tgt := 71) hx hb dX1_stream_28 (by omega) (by decide) ?_
        refine x_aload_nO hx hb dX1_stream_71 rfl (lv_at hl 1 rfl) ?_
        obtain ⟨a43, ea43, hw⟩ := hw
        rw [ea43]
        obtain ⟨y45, hf44, hw⟩ := hw
        refine x_getHN (ci := 4) (Cn := RX5) (T := TX5) (N := 9) (k := 6) C hR hf44 rfl in_X5 (by decide) (x_nest C q331 rfl) (fun _ h9 => h9) dX1_stream_72 ?_
        refine lv_if_eq (tgt := 82) hx hb dX1_stream_75 (by decide) (fun c46 => ?_) (fun c46 => ?_)
        · replace hw := hw.1 c46
          refine lv_iconst (v := 0) hx hb dX1_stream_82 (by decide) ?_
          exact kX1_stream_b83 C hlt hxt hR hS hk hn (lv_sub hl [] rfl) hw
        · replace hw := hw.2 c46
          refine lv_iconst (v := 1) hx hb dX1_stream_78 (by decide) ?_
          refine lv_goto (tgt := 83) hx hb dX1_stream_79 (by decide) ?_
          exact kX1_stream_b83 C hlt hxt hR hS hk hn (lv_sub hl [] rfl) hw
def wX1_stream_b23 (post : Int32 → (Nat → Int32) → (Nat → Nat → Int32) → x_H → Prop) (postX : String → (Nat → Int32) → (Nat → Nat → Int32) → x_H → Prop) (ad : Nat → Nat) (p1 : Int32) (p2 : Int32) (F : (Nat → Int32)) (M : (Nat → Nat → Int32)) (h : x_H) (mc : Nat) (ms : Nat) (x3 : Option Nat) : Prop :=
  wX1_stream_b24 post postX ad p1 p2 F M h mc ms x3 0
theorem kX1_stream_b23 {post : Int32 → (Nat → Int32) → (Nat → Nat → Int32) → x_H → Prop} {postX : String → (Nat → Int32) → (Nat → Nat → Int32) → x_H → Prop} {p1 : Int32} {p2 : Int32} (C : x_C p s m args meth c cX1_stream 4 (some .int) RX1 D N0 gp) (hlt : l.stackTraces = false) (hxt : ∀ x ∈ c.exceptionTable.toList, False) {F : (Nat → Int32)} {M : (Nat → Nat → Int32)} {h : x_H} {mc : Nat} {ms : Nat} {x3 : Option Nat} {k n : Nat} {H : Heap} {locs : List Loc} {ls : Array Slot} (hR : x_R D s N0 (fixC ad F M ++ XF) h H) (hS : va_S (x_A N0) s.heap H locs) (hk : k + mc ≤ mc0) (hn : n + ms ≤ ms0) (hl : lv_has ls 4 [(2, .int p2), (3, va_rf x3)]) (hw : wX1_stream_b23 post postX ad p1 p2 F M h mc ms x3) : W p l e (rmX1_stream mc0 ms0) s m args below meth c H locs k n (vx_MQ below (x_Qc D N0 (x_Vi (qCi ad XF post))) (x_XC D N0 (qXC ad XF postX)) args s mc0 ms0 (x_A N0)) (F0 m 23 ls []) := by
  obtain ⟨⟨hx, hb, hml, hown, hts⟩, hr, hlocks, hG, hN⟩ := id C
  unfold wX1_stream_b23 at hw
  refine lv_iconst (v := 0) hx hb dX1_stream_23 (by decide) ?_
  exact kX1_stream_b24 C hlt hxt hR hS hk hn (lv_sub hl [0, 1] rfl) hw
end
def wX1_stream (post : Int32 → (Nat → Int32) → (Nat → Nat → Int32) → x_H → Prop) (postX : String → (Nat → Int32) → (Nat → Nat → Int32) → x_H → Prop) (ad : Nat → Nat) (p1 : Int32) (p2 : Int32) (F : (Nat → Int32)) (M : (Nat → Nat → Int32)) (h : x_H) (mc : Nat) (ms : Nat) : Prop :=
  wX1_known (fun r24 => (r24 = none → wX1_stream_b23 post postX ad p1 p2 F M h mc ms none) ∧ (∀ a25 : Nat, r24 = some a25 → wX1_outside (fun r26 => (r26 = 0 → wX1_stream_b24 post postX ad p1 p2 F M h mc ms (some a25) 1) ∧ (¬ r26 = 0 → wX1_stream_b23 post postX ad p1 p2 F M h mc ms (some a25))) p2 0 3)) ad p1 F M h
theorem kX1_stream (l : Launch) (D : va_G) (N0 : Nat) (gp : Nat → Nat) (ad : Nat → Nat) (XF : x_X) (p1 : Int32) (p2 : Int32) (F : (Nat → Int32)) (M : (Nat → Nat → Int32)) (h : x_H) (mc : Nat) (ms : Nat) (post : Int32 → (Nat → Int32) → (Nat → Nat → Int32) → x_H → Prop) (postX : String → (Nat → Int32) → (Nat → Nat → Int32) → x_H → Prop) (hlt : l.stackTraces = false) (hw : wX1_stream post postX ad p1 p2 F M h mc ms) : vx_Met l yX1_stream (ws_ yX1_stream cX1_stream 4 (some .int)) (rmX1_stream mc ms) (x_Pc D N0 gp (fixC ad F M ++ XF) h [.ref (ad 1000), .int p1, .int p2]) (x_Qc D N0 (x_Vi (qCi ad XF post))) (x_XC D N0 (qXC ad XF postX)) mc ms (x_A N0) := by
  refine x_startX (lv := [(0, .ref (ad 1000)), (1, .int p1), (2, .int p2)]) (by decide) rfl (Nat.le_of_ble_eq_true rfl) rfl ?_
  intro p e s m below meth c C hxt hR ls hl
  have hS : va_S (x_A N0) s.heap s.heap [] := va_S.rf
  obtain ⟨⟨hx, hb, hml, hown, hts⟩, hr, hlocks, hG, hN⟩ := id C
  unfold wX1_stream at hw
  have hk : 0 + mc ≤ mc := Nat.le_of_eq (Nat.zero_add _)
  have hn : 0 + ms ≤ ms := Nat.le_of_eq (Nat.zero_add _)
  refine lv_aload_n hx hb dX1_stream_0 rfl (lv_at hl 0 rfl) ?_
  refine lv_iload_n hx hb dX1_stream_1 rfl (lv_at hl 1 rfl) ?_
  refine x_calla0 (x_runV (n := 1) (As := [.int p1]) C hR hS (kX1_known l D N0 gp ad XF p1 F M h _ hw) (lw_V q594 q596 qs18 q85 q597) rfl rfl (by decide +kernel) ⟨Nat.le_of_ble_eq_true rfl, Nat.le_of_ble_eq_true rfl⟩ (x_recv C (hR.rdX 0 rfl) rfl) rfl hl.1 rfl (Nat.le_of_ble_eq_true rfl) dX1_stream_2 ⟨x_bud0 hk, x_bud0 hn⟩) hS (fun r24 X1 h1 H locs hq hR hS => ?_)
  clear hw
  obtain ⟨e1, e2, hw⟩ := hq
  rw [e1, e2] at hR
  refine x_astore_nO (lv' := [(3, va_rf r24), (0, .ref (ad 1000)), (1, .int p1), (2, .int p2)]) hx hb dX1_stream_5 rfl hl (by decide) rfl (fun ls hl => ?_)
  refine x_aload_nO hx hb dX1_stream_6 rfl (lv_at hl 0 rfl) ?_
  cases r24 with
  | none =>
    replace hw := hw.1 rfl
    refine lv_ifnullN (tgt := 23) hx hb dX1_stream_7 (by decide) ?_
    exact kX1_stream_b23 C hlt hxt hR hS hk hn (lv_sub hl [3, 0] rfl) hw
  | some a25 =>
    replace hw := hw.2 a25 rfl
    refine lv_ifnull hx hb dX1_stream_7 ?_
    refine lv_iload_n hx hb dX1_stream_10 rfl (lv_at hl 3 rfl) ?_
    refine lv_iconst (v := 0) hx hb dX1_stream_11 (by decide) ?_
    refine lv_iconst (v := 3) hx hb dX1_stream_12 (by decide) ?_
    refine x_calli0 (x_runS (n := 3) (As := [.int p2, .int 0, .int 3]) C hR hS (kX1_outside l D N0 gp _ _ p2 0 3 _ hw) (lw_S q480 q481 q85 q482) rfl rfl (by decide +kernel) ⟨Nat.le_of_ble_eq_true rfl, Nat.le_of_ble_eq_true rfl⟩ rfl hl.1 rfl (Nat.le_of_ble_eq_true rfl) dX1_stream_13 ⟨x_bud0 hk, x_bud0 hn⟩) hS (fun r26 X1 h1 H locs hq hR hS => ?_)
    clear hw
    obtain ⟨e1, e2, hw⟩ := hq
    rw [e1, e2] at hR
    refine lv_if_ne (tgt := 23) hx hb dX1_stream_16 (by decide) (fun c27 => ?_) (fun c27 => ?_)
    · replace hw := hw.2 c27
      exact kX1_stream_b23 C hlt hxt hR hS hk hn (lv_sub hl [3, 0] rfl) hw
    · replace hw := hw.1 c27
      refine lv_iconst (v := 1) hx hb dX1_stream_19 (by decide) ?_
      refine lv_goto (tgt := 24) hx hb dX1_stream_20 (by decide) ?_
      exact kX1_stream_b24 C hlt hxt hR hS hk hn (lv_sub hl [3, 0] rfl) hw
/-- PageServer.entry(III)I -/
abbrev rmX1_entry (mc0 ms0 : Nat) : Room := { frames := 7, cells := mc0, slots := ms0, locals := 120 }
section
variable {p : Program} {l : Launch} {e : Env} {s : State} {m : MethodId} {args : Array Value} {below : List Frame} {meth : Method} {c : Code} {D : va_G} {N0 : Nat} {gp : Nat → Nat} {ad : Nat → Nat} {XF : x_X} {mc0 ms0 : Nat}
def wX1_entry_b71 (post : Int32 → (Nat → Int32) → (Nat → Nat → Int32) → x_H → Prop) (postX : String → (Nat → Int32) → (Nat → Nat → Int32) → x_H → Prop) (gp : Nat → Nat) (ad : Nat → Nat) (p1 : Int32) (p2 : Int32) (p3 : Int32) (F : (Nat → Int32)) (M : (Nat → Nat → Int32)) (h : x_H) (mc : Nat) (ms : Nat) (x5 : Option Nat) (s0 : Int32) : Prop :=
  ∃ ca68 cb69 mc70 ms71 : Nat, ca68 + mc70 ≤ mc ∧ cb69 + ms71 ≤ ms ∧ wX1_find (fun F72 M72 h73 => ∃ a74 : Nat, x5 = some a74 ∧ ∃ (t76 : Nat) (fs77 : List Value), h73 a74 = some (t76, .inr (9, fs77)) ∧ wJ9_charAt (fun r75 => post r75 F72 M72 h73) gp a74 p3 h73) postX ad s0 F M h ca68 cb69
theorem kX1_entry_b71 {post : Int32 → (Nat → Int32) → (Nat → Nat → Int32) → x_H → Prop} {postX : String → (Nat → Int32) → (Nat → Nat → Int32) → x_H → Prop} {p1 : Int32} {p2 : Int32} {p3 : Int32} (C : x_C p s m args meth c cX1_entry 6 (some .int) RX1 D N0 gp) (hlt : l.stackTraces = false) (hxt : ∀ x ∈ c.exceptionTable.toList, False) {F : (Nat → Int32)} {M : (Nat → Nat → Int32)} {h : x_H} {mc : Nat} {ms : Nat} {x5 : Option Nat} {s0 : Int32} {k n : Nat} {H : Heap} {locs : List Loc} {ls : Array Slot} (hR : x_R D s N0 (fixC ad F M ++ XF) h H) (hS : va_S (x_A N0) s.heap H locs) (hk : k + mc ≤ mc0) (hn : n + ms ≤ ms0) (hl : lv_has ls 6 [(3, .int p3), (5, va_rf x5)]) (hw : wX1_entry_b71 post postX gp ad p1 p2 p3 F M h mc ms x5 s0) : W p l e (rmX1_entry mc0 ms0) s m args below meth c H locs k n (vx_MQ below (x_Qc D N0 (x_Vi (qCi ad XF post))) (x_XC D N0 (qXC ad XF postX)) args s mc0 ms0 (x_A N0)) (F0 m 71 ls [.int s0]) := by
  obtain ⟨⟨hx, hb, hml, hown, hts⟩, hr, hlocks, hG, hN⟩ := id C
  unfold wX1_entry_b71 at hw
  obtain ⟨ca68, cb69, mc70, ms71, hca68, hcb69, hw⟩ := hw
  refine x_callXv (x_runSX (n := 1) (As := [.int s0]) C hR hS (kX1_find l D N0 gp ad XF s0 F M h ca68 cb69 _ _ hlt hw) (lw_S q1124 q1125 q85 q1126) rfl rfl (by decide +kernel) ⟨Nat.le_of_ble_eq_true rfl, Nat.le_of_ble_eq_true rfl⟩ rfl hl.1 rfl (Nat.le_of_ble_eq_true rfl) dX1_entry_71 ⟨x_bud hk hca68, x_bud hn hcb69⟩) hS (fun E9 ce9 q9 X9 h9 H9 locs9 hq9 hR9 hS9 hce9 hcv9 hcl9 => by obtain ⟨F9, M9, e9, hq9⟩ := hq9; rw [e9] at hR9; exact x_outX C hxt hR9 hS9 ⟨_, _, rfl, hq9⟩ hce9 hcv9 hcl9 (x_bud hk hca68) (x_bud hn hcb69)) (fun X1 h73 H locs hq hR hS => ?_)
  clear hw
  obtain ⟨F72, M72, e1, hw⟩ := hq
  rw [e1] at hR
  have hk := x_budN hk hca68
  have hn := x_budN hn hcb69
  refine x_aloadO hx hb dX1_entry_74 (lv_at hl 1 rfl) ?_
  refine lv_iload_n hx hb dX1_entry_76 rfl (lv_at hl 0 rfl) ?_
  obtain ⟨a74, ea74, hw⟩ := hw
  rw [ea74]
  obtain ⟨t76, fs77, he78, hw⟩ := hw
  refine x_calli0 (x_runV (n := 1) (As := [.int p3]) C hR hS (kJ9_charAt l D N0 gp _ a74 p3 h73 _ hw) (lw_V q994 q995 q996 q99 q997) rfl rfl (by decide +kernel) ⟨Nat.le_of_ble_eq_true rfl, Nat.le_of_ble_eq_true rfl⟩ (x_recv C (hR.rdH he78) rfl) rfl hl.1 rfl (Nat.le_of_ble_eq_true rfl) dX1_entry_77 ⟨x_bud0 hk, x_bud0 hn⟩) hS (fun r75 X1 h1 H locs hq hR hS => ?_)
  clear hw
  obtain ⟨e1, e2, hw⟩ := hq
  rw [e1, e2] at hR
  exact vx_ret (x_endi C hR hS ⟨_, rfl, ⟨_, _, rfl, hw⟩⟩ (x_le hk) (x_le hn) dX1_entry_80)
def wX1_entry_b49 (post : Int32 → (Nat → Int32) → (Nat → Nat → Int32) → x_H → Prop) (postX : String → (Nat → Int32) → (Nat → Nat → Int32) → x_H → Prop) (gp : Nat → Nat) (ad : Nat → Nat) (p1 : Int32) (p2 : Int32) (p3 : Int32) (F : (Nat → Int32)) (M : (Nat → Nat → Int32)) (h : x_H) (mc : Nat) (ms : Nat) (s0 : Option Nat) : Prop :=
  ∃ a61 : Nat, s0 = some a61 ∧ ∃ (t63 : Nat) (fs64 : List Value), h a61 = some (t63, .inr (9, fs64)) ∧ wJ9_length (fun r62 => wX1_outside (fun r66 => (r66 = 0 → wX1_entry_b71 post postX gp ad p1 p2 p3 F M h mc ms s0 1) ∧ (¬ r66 = 0 → wX1_entry_b71 post postX gp ad p1 p2 p3 F M h mc ms s0 0)) p3 0 (r62 - 1)) a61 h
theorem kX1_entry_b49 {post : Int32 → (Nat → Int32) → (Nat → Nat → Int32) → x_H → Prop} {postX : String → (Nat → Int32) → (Nat → Nat → Int32) → x_H → Prop} {p1 : Int32} {p2 : Int32} {p3 : Int32} (C : x_C p s m args meth c cX1_entry 6 (some .int) RX1 D N0 gp) (hlt : l.stackTraces = false) (hxt : ∀ x ∈ c.exceptionTable.toList, False) {F : (Nat → Int32)} {M : (Nat → Nat → Int32)} {h : x_H} {mc : Nat} {ms : Nat} {s0 : Option Nat} {k n : Nat} {H : Heap} {locs : List Loc} {ls : Array Slot} (hR : x_R D s N0 (fixC ad F M ++ XF) h H) (hS : va_S (x_A N0) s.heap H locs) (hk : k + mc ≤ mc0) (hn : n + ms ≤ ms0) (hl : lv_has ls 6 [(3, .int p3)]) (hw : wX1_entry_b49 post postX gp ad p1 p2 p3 F M h mc ms s0) : W p l e (rmX1_entry mc0 ms0) s m args below meth c H locs k n (vx_MQ below (x_Qc D N0 (x_Vi (qCi ad XF post))) (x_XC D N0 (qXC ad XF postX)) args s mc0 ms0 (x_A N0)) (F0 m 49 ls [va_rf s0]) := by
  obtain ⟨⟨hx, hb, hml, hown, hts⟩, hr, hlocks, hG, hN⟩ := id C
  unfold wX1_entry_b49 at hw
  refine x_astoreO (lv' := [(5, va_rf s0), (3, .int p3)]) hx hb dX1_entry_49 hl (by decide) rfl (fun ls hl => ?_)
  refine lv_iload_n hx hb dX1_entry_51 rfl (lv_at hl 1 rfl) ?_
  refine lv_iconst (v := 0) hx hb dX1_entry_52 (by decide) ?_
  refine x_aloadO hx hb dX1_entry_53 (lv_at hl 0 rfl) ?_
  obtain ⟨a61, ea61, hw⟩ := hw
  rw [ea61]
  obtain ⟨t63, fs64, he65, hw⟩ := hw
  refine x_calli0 (x_runV (n := 0) (As := []) C hR hS (kJ9_length l D N0 gp _ a61 h _ hw) (lw_V q1022 q783 q784 q99 q785) rfl rfl (by decide +kernel) ⟨Nat.le_of_ble_eq_true rfl, Nat.le_of_ble_eq_true rfl⟩ (x_recv C (hR.rdH he65) rfl) rfl hl.1 rfl (Nat.le_of_ble_eq_true rfl) dX1_entry_55 ⟨x_bud0 hk, x_bud0 hn⟩) hS (fun r62 X1 h1 H locs hq hR hS => ?_)
  clear hw
  obtain ⟨e1, e2, hw⟩ := hq
  rw [e1, e2] at hR
  refine lv_iconst (v := 1) hx hb dX1_entry_58 (by decide) ?_
  refine lv_isub hx hb dX1_entry_59 ?_
  refine x_calli0 (x_runS (n := 3) (As := [.int p3, .int 0, .int (r62 - 1)]) C hR hS (kX1_outside l D N0 gp _ _ p3 0 (r62 - 1) _ hw) (lw_S q480 q481 q85 q482) rfl rfl (by decide +kernel) ⟨Nat.le_of_ble_eq_true rfl, Nat.le_of_ble_eq_true rfl⟩ rfl hl.1 rfl (Nat.le_of_ble_eq_true rfl) dX1_entry_60 ⟨x_bud0 hk, x_bud0 hn⟩) hS (fun r66 X1 h1 H locs hq hR hS => ?_)
  clear hw
  obtain ⟨e1, e2, hw⟩ := hq
  rw [e1, e2] at hR
  refine lv_if_ne (tgt := 70) hx hb dX1_entry_63 (by decide) (fun c67 => ?_) (fun c67 => ?_)
  · replace hw := hw.2 c67
    refine lv_iconst (v := 0) hx hb dX1_entry_70 (by decide) ?_
    exact kX1_entry_b71 C hlt hxt hR hS hk hn (lv_sub hl [1, 0] rfl) hw
  · replace hw := hw.1 c67
    refine lv_iconst (v := 1) hx hb dX1_entry_66 (by decide) ?_
    refine lv_goto (tgt := 71) hx hb dX1_entry_67 (by decide) ?_
    exact kX1_entry_b71 C hlt hxt hR hS hk hn (lv_sub hl [1, 0] rfl) hw
def wX1_entry_b29 (post : Int32 → (Nat → Int32) → (Nat → Nat → Int32) → x_H → Prop) (postX : String → (Nat → Int32) → (Nat → Nat → Int32) → x_H → Prop) (gp : Nat → Nat) (ad : Nat → Nat) (p1 : Int32) (p2 : Int32) (p3 : Int32) (F : (Nat → Int32)) (M : (Nat → Nat → Int32)) (h : x_H) (mc : Nat) (ms : Nat) (x4 : Option Nat) (s0 : Int32) : Prop :=
  ∃ ca44 cb45 mc46 ms47 : Nat, ca44 + mc46 ≤ mc ∧ cb45 + ms47 ≤ ms ∧ wX1_find (fun F48 M48 h49 => (p2 = 0 → ∃ a56 : Nat, x4 = some a56 ∧ ∃ (t58 : Nat) (fs59 : List Value), h49 a56 = some (t58, .inr (2, fs59)) ∧ wX3_name (fun r57 => wX1_entry_b49 post postX gp ad p1 p2 p3 F48 M48 h49 mc46 ms47 r57) a56 h49) ∧ (¬ p2 = 0 → ∃ a51 : Nat, x4 = some a51 ∧ ∃ (t53 : Nat) (fs54 : List Value), h49 a51 = some (t53, .inr (2, fs54)) ∧ wX3_value (fun r52 => wX1_entry_b49 post postX gp ad p1 p2 p3 F48 M48 h49 mc46 ms47 r52) a51 h49)) postX ad s0 F M h ca44 cb45
theorem kX1_entry_b29 {post : Int32 → (Nat → Int32) → (Nat → Nat → Int32) → x_H → Prop} {postX : String → (Nat → Int32) → (Nat → Nat → Int32) → x_H → Prop} {p1 : Int32} {p2 : Int32} {p3 : Int32} (C : x_C p s m args meth c cX1_entry 6 (some .int) RX1 D N0 gp) (hlt : l.stackTraces = false) (hxt : ∀ x ∈ c.exceptionTable.toList, False) {F : (Nat → Int32)} {M : (Nat → Nat → Int32)} {h : x_H} {mc : Nat} {ms : Nat} {x4 : Option Nat} {s0 : Int32} {k n : Nat} {H : Heap} {locs : List Loc} {ls : Array Slot} (hR : x_R D s N0 (fixC ad F M ++ XF) h H) (hS : va_S (x_A N0) s.heap H locs) (hk : k + mc ≤ mc0) (hn : n + ms ≤ ms0) (hl : lv_has ls 6 [(2, .int p2), (3, .int p3), (4, va_rf x4)]) (hw : wX1_entry_b29 post postX gp ad p1 p2 p3 F M h mc ms x4 s0) : W p l e (rmX1_entry mc0 ms0) s m args below meth c H locs k n (vx_MQ below (x_Qc D N0 (x_Vi (qCi ad XF post))) (x_XC D N0 (qXC ad XF postX)) args s mc0 ms0 (x_A N0)) (F0 m 29 ls [.int s0]) := by
  obtain ⟨⟨hx, hb, hml, hown, hts⟩, hr, hlocks, hG, hN⟩ := id C
  unfold wX1_entry_b29 at hw
  obtain ⟨ca44, cb45, mc46, ms47, hca44, hcb45, hw⟩ := hw
  refine x_callXv (x_runSX (n := 1) (As := [.int s0]) C hR hS (kX1_find l D N0 gp ad XF s0 F M h ca44 cb45 _ _ hlt hw) (lw_S q1124 q1125 q85 q1126) rfl rfl (by decide +kernel) ⟨Nat.le_of_ble_eq_true rfl, Nat.le_of_ble_eq_true rfl⟩ rfl hl.1 rfl (Nat.le_of_ble_eq_true rfl) dX1_entry_29 ⟨x_bud hk hca44, x_bud hn hcb45⟩) hS (fun E9 ce9 q9 X9 h9 H9 locs9 hq9 hR9 hS9 hce9 hcv9 hcl9 => by obtain ⟨F9, M9, e9, hq9⟩ := hq9; rw [e9] at hR9; exact x_outX C hxt hR9 hS9 ⟨_, _, rfl, hq9⟩ hce9 hcv9 hcl9 (x_bud hk hca44) (x_bud hn hcb45)) (fun X1 h49 H locs hq hR hS => ?_)
  clear hw
  obtain ⟨F48, M48, e1, hw⟩ := hq
  rw [e1] at hR
  have hk := x_budN hk hca44
  have hn := x_budN hn hcb45
  refine lv_iload_n hx hb dX1_entry_32 rfl (lv_at hl 0 rfl) ?_
  refine lv_if_ne (tgt := 44) hx hb dX1_entry_33 (by decide) (fun c50 => ?_) (fun c50 => ?_)
  · replace hw := hw.2 c50
    refine x_aloadO hx hb dX1_entry_44 (lv_at hl 2 rfl) ?_
    obtain ⟨a51, ea51, hw⟩ := hw
    rw [ea51]
    obtain ⟨t53, fs54, he55, hw⟩ := hw
    refine x_calla0 (x_runV (n := 0) (As := []) C hR hS (kX3_value l D N0 gp _ a51 h49 _ hw) (lw_V q1014 q1015 q1016 q91 q1017) rfl rfl (by decide +kernel) ⟨Nat.le_of_ble_eq_true rfl, Nat.le_of_ble_eq_true rfl⟩ (x_recv C (hR.rdH he55) rfl) rfl hl.1 rfl (Nat.le_of_ble_eq_true rfl) dX1_entry_46 ⟨x_bud0 hk, x_bud0 hn⟩) hS (fun r52 X1 h1 H locs hq hR hS => ?_)
    clear hw
    obtain ⟨e1, e2, hw⟩ := hq
    rw [e1, e2] at hR
    exact kX1_entry_b49 C hlt hxt hR hS hk hn (lv_sub hl [1] rfl) hw
  · replace hw := hw.1 c50
    refine x_aloadO hx hb dX1_entry_36 (lv_at hl 2 rfl) ?_
    obtain ⟨a56, ea56, hw⟩ := hw
    rw [ea56]
    obtain ⟨t58, fs59, he60, hw⟩ := hw
    refine x_calla0 (x_runV (n := 0) (As := []) C hR hS (kX3_name l D N0 gp _ a56 h49 _ hw) (lw_V q993 q952 q953 q91 q954) rfl rfl (by decide +kernel) ⟨Nat.le_of_ble_eq_true rfl, Nat.le_of_ble_eq_true rfl⟩ (x_recv C (hR.rdH he60) rfl) rfl hl.1 rfl (Nat.le_of_ble_eq_true rfl) dX1_entry_38 ⟨x_bud0 hk, x_bud0 hn⟩) hS (fun r57 X1 h1 H locs hq hR hS => ?_)
    clear hw
    obtain ⟨e1, e2, hw⟩ := hq
    rw [e1, e2] at hR
    refine lv_goto (tgt := 49) hx hb dX1_entry_41 (by decide) ?_
    exact kX1_entry_b49 C hlt hxt hR hS hk hn (lv_sub hl [1] rfl) hw
def wX1_entry_b28 (post : Int32 → (Nat → Int32) → (Nat → Nat → Int32) → x_H → Prop) (postX : String → (Nat → Int32) → (Nat → Nat → Int32) → x_H → Prop) (gp : Nat → Nat) (ad : Nat → Nat) (p1 : Int32) (p2 : Int32) (p3 : Int32) (F : (Nat → Int32)) (M : (Nat → Nat → Int32)) (h : x_H) (mc : Nat) (ms : Nat) (x4 : Option Nat) : Prop :=
  wX1_entry_b29 post postX gp ad p1 p2 p3 F M h mc ms x4 0
theorem kX1_entry_b28 {post : Int32 → (Nat → Int32) → (Nat → Nat → Int32) → x_H → Prop} {postX : String → (Nat → Int32) → (Nat → Nat → Int32) → x_H → Prop} {p1 : Int32} {p2 : Int32} {p3 : Int32} (C : x_C p s m args meth c cX1_entry 6 (some .int) RX1 D N0 gp) (hlt : l.stackTraces = false) (hxt : ∀ x ∈ c.exceptionTable.toList, False) {F : (Nat → Int32)} {M : (Nat → Nat → Int32)} {h : x_H} {mc : Nat} {ms : Nat} {x4 : Option Nat} {k n : Nat} {H : Heap} {locs : List Loc} {ls : Array Slot} (hR : x_R D s N0 (fixC ad F M ++ XF) h H) (hS : va_S (x_A N0) s.heap H locs) (hk : k + mc ≤ mc0) (hn : n + ms ≤ ms0) (hl : lv_has ls 6 [(2, .int p2), (3, .int p3), (4, va_rf x4)]) (hw : wX1_entry_b28 post postX gp ad p1 p2 p3 F M h mc ms x4) : W p l e (rmX1_entry mc0 ms0) s m args below meth c H locs k n (vx_MQ below (x_Qc D N0 (x_Vi (qCi ad XF post))) (x_XC D N0 (qXC ad XF postX)) args s mc0 ms0 (x_A N0)) (F0 m 28 ls []) := by
  obtain ⟨⟨hx, hb, hml, hown, hts⟩, hr, hlocks, hG, hN⟩ := id C
  unfold wX1_entry_b28 at hw
  refine lv_iconst (v := 0) hx hb dX1_entry_28 (by decide) ?_
  exact kX1_entry_b29 C hlt hxt hR hS hk hn (lv_sub hl [0, 1, 2] rfl) hw
end
def wX1_entry (post : Int32 → (Nat → Int32) → (Nat → Nat → Int32) → x_H → Prop) (postX : String → (Nat → Int32) → (Nat → Nat → Int32) → x_H → Prop) (gp : Nat → Nat) (ad : Nat → Nat) (p1 : Int32) (p2 : Int32) (p3 : Int32) (F : (Nat → Int32)) (M : (Nat → Nat → Int32)) (h : x_H) (mc : Nat) (ms : Nat) : Prop :=
  wX2_at (fun r40 => (r40 = none → wX1_entry_b28 post postX gp ad p1 p2 p3 F M h mc ms none) ∧ (∀ a41 : Nat, r40 = some a41 → wX1_outside (fun r42 => (r42 = 0 → wX1_entry_b29 post postX gp ad p1 p2 p3 F M h mc ms (some a41) 1) ∧ (¬ r42 = 0 → wX1_entry_b28 post postX gp ad p1 p2 p3 F M h mc ms (some a41))) p2 0 1)) ad p1 F M h
theorem kX1_entry (l : Launch) (D : va_G) (N0 : Nat) (gp : Nat → Nat) (ad : Nat → Nat) (XF : x_X) (p1 : Int32) (p2 : Int32) (p3 : Int32) (F : (Nat → Int32)) (M : (Nat → Nat → Int32)) (h : x_H) (mc : Nat) (ms : Nat) (post : Int32 → (Nat → Int32) → (Nat → Nat → Int32) → x_H → Prop) (postX : String → (Nat → Int32) → (Nat → Nat → Int32) → x_H → Prop) (hlt : l.stackTraces = false) (hw : wX1_entry post postX gp ad p1 p2 p3 F M h mc ms) : vx_Met l yX1_entry (ws_ yX1_entry cX1_entry 6 (some .int)) (rmX1_entry mc ms) (x_Pc D N0 gp (fixC ad F M ++ XF) h [.ref (ad 1000), .int p1, .int p2, .int p3]) (x_Qc D N0 (x_Vi (qCi ad XF post))) (x_XC D N0 (qXC ad XF postX)) mc ms (x_A N0) := by
  refine x_startX (lv := [(0, .ref (ad 1000)), (1, .int p1), (2, .int p2), (3, .int p3)]) (by decide) rfl (Nat.le_of_ble_eq_true rfl) rfl ?_
  intro p e s m below meth c C hxt hR ls hl
  have hS : va_S (x_A N0) s.heap s.heap [] := va_S.rf
  obtain ⟨⟨hx, hb, hml, hown, hts⟩, hr, hlocks, hG, hN⟩ := id C
  unfold wX1_entry at hw
  have hk : 0 + mc ≤ mc := Nat.le_of_eq (Nat.zero_add _)
  have hn : 0 + ms ≤ ms := Nat.le_of_eq (Nat.zero_add _)
  refine lv_aload_n hx hb dX1_entry_0 rfl (lv_at hl 0 rfl) ?_
  refine x_get (ci := 0) (Cn := RX1) (T := TX1) (N := 27) (v := .ref (ad 3)) C (hR.rdX 0 rfl) rfl in_X1 3 (by decide) q396 (fun _ h9 => h9) rfl dX1_entry_1 ?_
  refine lv_iload_n hx hb dX1_entry_4 rfl (lv_at hl 1 rfl) ?_
  refine x_calla0 (x_runV (n := 1) (As := [.int p1]) C hR hS (kX2_at l D N0 gp ad XF p1 F M h _ hw) (lw_V q1156 q686 q687 q89 q688) rfl rfl (by decide +kernel) ⟨Nat.le_of_ble_eq_true rfl, Nat.le_of_ble_eq_true rfl⟩ (x_recv C (hR.rdX 1 rfl) rfl) rfl hl.1 rfl (Nat.le_of_ble_eq_true rfl) dX1_entry_5 ⟨x_bud0 hk, x_bud0 hn⟩) hS (fun r40 X1 h1 H locs hq hR hS => ?_)
  clear hw
  obtain ⟨e1, e2, hw⟩ := hq
  rw [e1, e2] at hR
  refine x_astoreO (lv' := [(4, va_rf r40), (0, .ref (ad 1000)), (1, .int p1), (2, .int p2), (3, .int p3)]) hx hb dX1_entry_8 hl (by decide) rfl (fun ls hl => ?_)
  refine x_aloadO hx hb dX1_entry_10 (lv_at hl 0 rfl) ?_
  cases r40 with
  | none =>
    replace hw := hw.1 rfl
    refine lv_ifnullN (tgt := 28) hx hb dX1_entry_12 (by decide) ?_
    exact kX1_entry_b28 C hlt hxt hR hS hk hn (lv_sub hl [3, 4, 0] rfl) hw
  | some a41 =>
    replace hw := hw.2 a41 rfl
    refine lv_ifnull hx hb dX1_entry_12 ?_
    refine lv_iload_n hx hb dX1_entry_15 rfl (lv_at hl 3 rfl) ?_
    refine lv_iconst (v := 0) hx hb dX1_entry_16 (by decide) ?_
    refine lv_iconst (v := 1) hx hb dX1_entry_17 (by decide) ?_
    refine x_calli0 (x_runS (n := 3) (As := [.int p2, .int 0, .int 1]) C hR hS (kX1_outside l D N0 gp _ _ p2 0 1 _ hw) (lw_S q480 q481 q85 q482) rfl rfl (by decide +kernel) ⟨Nat.le_of_ble_eq_true rfl, Nat.le_of_ble_eq_true rfl⟩ rfl hl.1 rfl (Nat.le_of_ble_eq_true rfl) dX1_entry_18 ⟨x_bud0 hk, x_bud0 hn⟩) hS (fun r42 X1 h1 H locs hq hR hS => ?_)
    clear hw
    obtain ⟨e1, e2, hw⟩ := hq
    rw [e1, e2] at hR
    refine lv_if_ne (tgt := 28) hx hb dX1_entry_21 (by decide) (fun c43 => ?_) (fun c43 => ?_)
    · replace hw := hw.2 c43
      exact kX1_entry_b28 C hlt hxt hR hS hk hn (lv_sub hl [3, 4, 0] rfl) hw
    · replace hw := hw.1 c43
      refine lv_iconst (v := 1) hx hb dX1_entry_24 (by decide) ?_
      refine lv_goto (tgt := 29) hx hb dX1_entry_25 (by decide) ?_
      exact kX1_entry_b29 C hlt hxt hR hS hk hn (lv_sub hl [3, 4, 0] rfl) hw
/-- PageServer$Stream.<init>()V -/
abbrev rmX5_init : Room := { frames := 1, cells := 0, slots := 0, locals := 12 }
section
variable {p : Program} {l : Launch} {e : Env} {s : State} {m : MethodId} {args : Array Value} {below : List Frame} {meth : Method} {c : Code} {D : va_G} {N0 : Nat} {gp : Nat → Nat} {X : x_X}
end
def wX5_init (post : Prop) (p0 : Nat) (h : x_H) : Prop :=
  post
theorem kX5_init (l : Launch) (D : va_G) (N0 : Nat) (gp : Nat → Nat) (X : x_X) (p0 : Nat) (h : x_H) (post : Prop) (hw : wX5_init post p0 h ) : Met l yX5_init (ws_ yX5_init cX5_init 1 none) rmX5_init (x_Pc D N0 gp X h [.ref p0]) (x_Qc D N0 (x_Vv (qPv X h post))) 0 0 (x_A N0) := by
  refine x_startI (lv := [(0, .ref p0)]) (by decide) rfl (Nat.le_of_ble_eq_true rfl) rfl ?_
  intro p e s m below meth c C hin hR ls hl
  have hS : va_S (x_A N0) s.heap s.heap [] := va_S.rf
  obtain ⟨⟨hx, hb, hml, hown, hts⟩, hr, hlocks, hG, hN⟩ := id C
  unfold wX5_init at hw
  refine lv_aload_n hx hb dX5_init_0 rfl (lv_at hl 0 rfl) ?_
  refine x_objInit C q318 q121 q122 hl.1 dX5_init_1 (Nat.le_of_ble_eq_true rfl) (Nat.le_of_ble_eq_true rfl) ?_
  exact x_endv C hR hS ⟨rfl, ⟨rfl, rfl, hw⟩⟩ (Nat.le_refl _) (Nat.le_refl _) dX5_init_4
