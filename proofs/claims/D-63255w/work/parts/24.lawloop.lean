/-! the law's loop, printed by gen/walk.py -/
set_option maxHeartbeats 4000000
set_option maxRecDepth 100000
theorem x_LM {D : va_G} {s : State} {N0 : Nat} {h : x_H} {H : Heap} {A B C : x_X} (hR : x_R D s N0 (A ++ (B ++ C)) h H) : x_R D s N0 (C ++ (A ++ B)) h H := by
  rw [← List.append_assoc] at hR
  exact x_swap hR
theorem x_ML {D : va_G} {s : State} {N0 : Nat} {h : x_H} {H : Heap} {A B C : x_X} (hR : x_R D s N0 (C ++ (A ++ B)) h H) : x_R D s N0 (A ++ (B ++ C)) h H := by
  rw [← List.append_assoc]
  exact x_swap hR
section
variable {p : Program} {l : Launch} {e : Env} {s : State} {m : MethodId} {args : Array Value} {below : List Frame} {meth : Method} {c : Code} {D : va_G} {N0 : Nat} {gp : Nat → Nat} {ad am : Nat → Nat} {ao b : Nat} {Q : _root_.Jvm.State → Prop}
def wL_law_b510 (K23 : (Nat → Int32) → (Nat → Nat → Int32) → (Nat → Int32) → (Nat → Nat → Int32) → (Nat → Int64) → x_H → Nat → Nat → Int32 → Prop) (gp : Nat → Nat) (ad am : Nat → Nat) (ao b : Nat) (F : (Nat → Int32)) (M : (Nat → Nat → Int32)) (G : (Nat → Int32)) (N : (Nat → Nat → Int32)) (o : (Nat → Int64)) (h : x_H) (mc : Nat) (ms : Nat) (x4 : Int32) : Prop :=
  K23 F M G N o h mc ms (x4 + 5)
theorem kL_law_b510 {K23 : (Nat → Int32) → (Nat → Nat → Int32) → (Nat → Int32) → (Nat → Nat → Int32) → (Nat → Int64) → x_H → Nat → Nat → Int32 → Prop} (C : x_C p s m args meth c cL_law 7 (some .boolean) RX0 D N0 gp) (hlt : l.stackTraces = false) (hend : ∀ (H : Heap) (locs : List Loc) (ls : Array Slot) (k n : Nat), va_S (x_A N0) s.heap H locs → k ≤ 601024 → n ≤ 7293034 → W p l e room_1 s m args below meth c H locs k n Q (F0 m 517 ls [.int 1])) (hK23 : ∀ (F : (Nat → Int32)) (M : (Nat → Nat → Int32)) (G : (Nat → Int32)) (N : (Nat → Nat → Int32)) (o : (Nat → Int64)) (h : x_H) (mc : Nat) (ms : Nat) (x4 : Int32) (k n : Nat) (H : Heap) (locs : List Loc) (ls : Array Slot), x_R D s N0 (fixC ad F M ++ (XO ao o ++ fixM am G N)) h H → va_S (x_A N0) s.heap H locs → k + mc ≤ 601024 → n + ms ≤ 7293034 → lv_has ls 7 [(0, .ref b), (1, .ref (ad 1000)), (2, .ref (am 1000)), (3, .ref ao), (4, .int x4)] → K23 F M G N o h mc ms x4 → W p l e room_1 s m args below meth c H locs k n Q (F0 m 23 ls [])) {F : (Nat → Int32)} {M : (Nat → Nat → Int32)} {G : (Nat → Int32)} {N : (Nat → Nat → Int32)} {o : (Nat → Int64)} {h : x_H} {mc : Nat} {ms : Nat} {x4 : Int32} {k n : Nat} {H : Heap} {locs : List Loc} {ls : Array Slot} (hR : x_R D s N0 (fixC ad F M ++ (XO ao o ++ fixM am G N)) h H) (hS : va_S (x_A N0) s.heap H locs) (hk : k + mc ≤ 601024) (hn : n + ms ≤ 7293034) (hl : lv_has ls 7 [(0, .ref b), (1, .ref (ad 1000)), (2, .ref (am 1000)), (3, .ref ao), (4, .int x4)]) (hw : wL_law_b510 K23 gp ad am ao b F M G N o h mc ms x4) : W p l e room_1 s m args below meth c H locs k n Q (F0 m 510 ls []) := by
  obtain ⟨⟨hx, hb, hml, hown, hts⟩, hr, hlocks, hG, hN⟩ := id C
  unfold wL_law_b510 at hw
  refine lv_iinc (v := x4 + 5) (lv' := [(4, .int (x4 + 5)), (0, .ref b), (1, .ref (ad 1000)), (2, .ref (am 1000)), (3, .ref ao)]) hx hb dL_law_510 hl (k := 4) rfl (x_inc 5 5 (by decide)) (by decide) rfl (fun ls hl => ?_)
  refine lv_goto (tgt := 23) hx hb dL_law_513 (by decide) ?_
  exact hK23 _ _ _ _ _ _ _ _ _ _ _ _ _ _ hR hS hk hn (lv_sub hl [1, 2, 3, 4, 0] rfl) hw
def wL_law_b181 (K23 : (Nat → Int32) → (Nat → Nat → Int32) → (Nat → Int32) → (Nat → Nat → Int32) → (Nat → Int64) → x_H → Nat → Nat → Int32 → Prop) (gp : Nat → Nat) (ad am : Nat → Nat) (ao b : Nat) (F : (Nat → Int32)) (M : (Nat → Nat → Int32)) (G : (Nat → Int32)) (N : (Nat → Nat → Int32)) (o : (Nat → Int64)) (h : x_H) (mc : Nat) (ms : Nat) (x4 : Int32) : Prop :=
  wL_law_b510 K23 gp ad am ao b F M G N o h mc ms x4
theorem kL_law_b181 {K23 : (Nat → Int32) → (Nat → Nat → Int32) → (Nat → Int32) → (Nat → Nat → Int32) → (Nat → Int64) → x_H → Nat → Nat → Int32 → Prop} (C : x_C p s m args meth c cL_law 7 (some .boolean) RX0 D N0 gp) (hlt : l.stackTraces = false) (hend : ∀ (H : Heap) (locs : List Loc) (ls : Array Slot) (k n : Nat), va_S (x_A N0) s.heap H locs → k ≤ 601024 → n ≤ 7293034 → W p l e room_1 s m args below meth c H locs k n Q (F0 m 517 ls [.int 1])) (hK23 : ∀ (F : (Nat → Int32)) (M : (Nat → Nat → Int32)) (G : (Nat → Int32)) (N : (Nat → Nat → Int32)) (o : (Nat → Int64)) (h : x_H) (mc : Nat) (ms : Nat) (x4 : Int32) (k n : Nat) (H : Heap) (locs : List Loc) (ls : Array Slot), x_R D s N0 (fixC ad F M ++ (XO ao o ++ fixM am G N)) h H → va_S (x_A N0) s.heap H locs → k + mc ≤ 601024 → n + ms ≤ 7293034 → lv_has ls 7 [(0, .ref b), (1, .ref (ad 1000)), (2, .ref (am 1000)), (3, .ref ao), (4, .int x4)] → K23 F M G N o h mc ms x4 → W p l e room_1 s m args below meth c H locs k n Q (F0 m 23 ls [])) {F : (Nat → Int32)} {M : (Nat → Nat → Int32)} {G : (Nat → Int32)} {N : (Nat → Nat → Int32)} {o : (Nat → Int64)} {h : x_H} {mc : Nat} {ms : Nat} {x4 : Int32} {k n : Nat} {H : Heap} {locs : List Loc} {ls : Array Slot} (hR : x_R D s N0 (fixC ad F M ++ (XO ao o ++ fixM am G N)) h H) (hS : va_S (x_A N0) s.heap H locs) (hk : k + mc ≤ 601024) (hn : n + ms ≤ 7293034) (hl : lv_has ls 7 [(0, .ref b), (1, .ref (ad 1000)), (2, .ref (am 1000)), (3, .ref ao), (4, .int x4)]) (hw : wL_law_b181 K23 gp ad am ao b F M G N o h mc ms x4) : W p l e room_1 s m args below meth c H locs k n Q (F0 m 181 ls []) := by
  obtain ⟨⟨hx, hb, hml, hown, hts⟩, hr, hlocks, hG, hN⟩ := id C
  unfold wL_law_b181 at hw
  refine lv_goto (tgt := 510) hx hb dL_law_181 (by decide) ?_
  exact kL_law_b510 C hlt hend hK23 hR hS hk hn (lv_sub hl [0, 1, 2, 3, 4] rfl) hw
def wL_law_b298 (K23 : (Nat → Int32) → (Nat → Nat → Int32) → (Nat → Int32) → (Nat → Nat → Int32) → (Nat → Int64) → x_H → Nat → Nat → Int32 → Prop) (gp : Nat → Nat) (ad am : Nat → Nat) (ao b : Nat) (F : (Nat → Int32)) (M : (Nat → Nat → Int32)) (G : (Nat → Int32)) (N : (Nat → Nat → Int32)) (o : (Nat → Int64)) (h : x_H) (mc : Nat) (ms : Nat) (x4 : Int32) : Prop :=
  wL_law_b510 K23 gp ad am ao b F M G N o h mc ms x4
theorem kL_law_b298 {K23 : (Nat → Int32) → (Nat → Nat → Int32) → (Nat → Int32) → (Nat → Nat → Int32) → (Nat → Int64) → x_H → Nat → Nat → Int32 → Prop} (C : x_C p s m args meth c cL_law 7 (some .boolean) RX0 D N0 gp) (hlt : l.stackTraces = false) (hend : ∀ (H : Heap) (locs : List Loc) (ls : Array Slot) (k n : Nat), va_S (x_A N0) s.heap H locs → k ≤ 601024 → n ≤ 7293034 → W p l e room_1 s m args below meth c H locs k n Q (F0 m 517 ls [.int 1])) (hK23 : ∀ (F : (Nat → Int32)) (M : (Nat → Nat → Int32)) (G : (Nat → Int32)) (N : (Nat → Nat → Int32)) (o : (Nat → Int64)) (h : x_H) (mc : Nat) (ms : Nat) (x4 : Int32) (k n : Nat) (H : Heap) (locs : List Loc) (ls : Array Slot), x_R D s N0 (fixC ad F M ++ (XO ao o ++ fixM am G N)) h H → va_S (x_A N0) s.heap H locs → k + mc ≤ 601024 → n + ms ≤ 7293034 → lv_has ls 7 [(0, .ref b), (1, .ref (ad 1000)), (2, .ref (am 1000)), (3, .ref ao), (4, .int x4)] → K23 F M G N o h mc ms x4 → W p l e room_1 s m args below meth c H locs k n Q (F0 m 23 ls [])) {F : (Nat → Int32)} {M : (Nat → Nat → Int32)} {G : (Nat → Int32)} {N : (Nat → Nat → Int32)} {o : (Nat → Int64)} {h : x_H} {mc : Nat} {ms : Nat} {x4 : Int32} {k n : Nat} {H : Heap} {locs : List Loc} {ls : Array Slot} (hR : x_R D s N0 (fixC ad F M ++ (XO ao o ++ fixM am G N)) h H) (hS : va_S (x_A N0) s.heap H locs) (hk : k + mc ≤ 601024) (hn : n + ms ≤ 7293034) (hl : lv_has ls 7 [(0, .ref b), (1, .ref (ad 1000)), (2, .ref (am 1000)), (3, .ref ao), (4, .int x4)]) (hw : wL_law_b298 K23 gp ad am ao b F M G N o h mc ms x4) : W p l e room_1 s m args below meth c H locs k n Q (F0 m 298 ls []) := by
  obtain ⟨⟨hx, hb, hml, hown, hts⟩, hr, hlocks, hG, hN⟩ := id C
  unfold wL_law_b298 at hw
  refine lv_goto (tgt := 510) hx hb dL_law_298 (by decide) ?_
  exact kL_law_b510 C hlt hend hK23 hR hS hk hn (lv_sub hl [0, 1, 2, 3, 4] rfl) hw
def wL_law_b427 (K23 : (Nat → Int32) → (Nat → Nat → Int32) → (Nat → Int32) → (Nat → Nat → Int32) → (Nat → Int64) → x_H → Nat → Nat → Int32 → Prop) (gp : Nat → Nat) (ad am : Nat → Nat) (ao b : Nat) (F : (Nat → Int32)) (M : (Nat → Nat → Int32)) (G : (Nat → Int32)) (N : (Nat → Nat → Int32)) (o : (Nat → Int64)) (h : x_H) (mc : Nat) (ms : Nat) (x4 : Int32) : Prop :=
  wL_law_b510 K23 gp ad am ao b F M G N o h mc ms x4
theorem kL_law_b427 {K23 : (Nat → Int32) → (Nat → Nat → Int32) → (Nat → Int32) → (Nat → Nat → Int32) → (Nat → Int64) → x_H → Nat → Nat → Int32 → Prop} (C : x_C p s m args meth c cL_law 7 (some .boolean) RX0 D N0 gp) (hlt : l.stackTraces = false) (hend : ∀ (H : Heap) (locs : List Loc) (ls : Array Slot) (k n : Nat), va_S (x_A N0) s.heap H locs → k ≤ 601024 → n ≤ 7293034 → W p l e room_1 s m args below meth c H locs k n Q (F0 m 517 ls [.int 1])) (hK23 : ∀ (F : (Nat → Int32)) (M : (Nat → Nat → Int32)) (G : (Nat → Int32)) (N : (Nat → Nat → Int32)) (o : (Nat → Int64)) (h : x_H) (mc : Nat) (ms : Nat) (x4 : Int32) (k n : Nat) (H : Heap) (locs : List Loc) (ls : Array Slot), x_R D s N0 (fixC ad F M ++ (XO ao o ++ fixM am G N)) h H → va_S (x_A N0) s.heap H locs → k + mc ≤ 601024 → n + ms ≤ 7293034 → lv_has ls 7 [(0, .ref b), (1, .ref (ad 1000)), (2, .ref (am 1000)), (3, .ref ao), (4, .int x4)] → K23 F M G N o h mc ms x4 → W p l e room_1 s m args below meth c H locs k n Q (F0 m 23 ls [])) {F : (Nat → Int32)} {M : (Nat → Nat → Int32)} {G : (Nat → Int32)} {N : (Nat → Nat → Int32)} {o : (Nat → Int64)} {h : x_H} {mc : Nat} {ms : Nat} {x4 : Int32} {k n : Nat} {H : Heap} {locs : List Loc} {ls : Array Slot} (hR : x_R D s N0 (fixC ad F M ++ (XO ao o ++ fixM am G N)) h H) (hS : va_S (x_A N0) s.heap H locs) (hk : k + mc ≤ 601024) (hn : n + ms ≤ 7293034) (hl : lv_has ls 7 [(0, .ref b), (1, .ref (ad 1000)), (2, .ref (am 1000)), (3, .ref ao), (4, .int x4)]) (hw : wL_law_b427 K23 gp ad am ao b F M G N o h mc ms x4) : W p l e room_1 s m args below meth c H locs k n Q (F0 m 427 ls []) := by
  obtain ⟨⟨hx, hb, hml, hown, hts⟩, hr, hlocks, hG, hN⟩ := id C
  unfold wL_law_b427 at hw
  refine lv_goto (tgt := 510) hx hb dL_law_427 (by decide) ?_
  exact kL_law_b510 C hlt hend hK23 hR hS hk hn (lv_sub hl [0, 1, 2, 3, 4] rfl) hw
def wL_law_b507 (K23 : (Nat → Int32) → (Nat → Nat → Int32) → (Nat → Int32) → (Nat → Nat → Int32) → (Nat → Int64) → x_H → Nat → Nat → Int32 → Prop) (gp : Nat → Nat) (ad am : Nat → Nat) (ao b : Nat) (F : (Nat → Int32)) (M : (Nat → Nat → Int32)) (G : (Nat → Int32)) (N : (Nat → Nat → Int32)) (o : (Nat → Int64)) (h : x_H) (mc : Nat) (ms : Nat) (x4 : Int32) : Prop :=
  wL_law_b510 K23 gp ad am ao b F M G N o h mc ms x4
theorem kL_law_b507 {K23 : (Nat → Int32) → (Nat → Nat → Int32) → (Nat → Int32) → (Nat → Nat → Int32) → (Nat → Int64) → x_H → Nat → Nat → Int32 → Prop} (C : x_C p s m args meth c cL_law 7 (some .boolean) RX0 D N0 gp) (hlt : l.stackTraces = false) (hend : ∀ (H : Heap) (locs : List Loc) (ls : Array Slot) (k n : Nat), va_S (x_A N0) s.heap H locs → k ≤ 601024 → n ≤ 7293034 → W p l e room_1 s m args below meth c H locs k n Q (F0 m 517 ls [.int 1])) (hK23 : ∀ (F : (Nat → Int32)) (M : (Nat → Nat → Int32)) (G : (Nat → Int32)) (N : (Nat → Nat → Int32)) (o : (Nat → Int64)) (h : x_H) (mc : Nat) (ms : Nat) (x4 : Int32) (k n : Nat) (H : Heap) (locs : List Loc) (ls : Array Slot), x_R D s N0 (fixC ad F M ++ (XO ao o ++ fixM am G N)) h H → va_S (x_A N0) s.heap H locs → k + mc ≤ 601024 → n + ms ≤ 7293034 → lv_has ls 7 [(0, .ref b), (1, .ref (ad 1000)), (2, .ref (am 1000)), (3, .ref ao), (4, .int x4)] → K23 F M G N o h mc ms x4 → W p l e room_1 s m args below meth c H locs k n Q (F0 m 23 ls [])) {F : (Nat → Int32)} {M : (Nat → Nat → Int32)} {G : (Nat → Int32)} {N : (Nat → Nat → Int32)} {o : (Nat → Int64)} {h : x_H} {mc : Nat} {ms : Nat} {x4 : Int32} {k n : Nat} {H : Heap} {locs : List Loc} {ls : Array Slot} (hR : x_R D s N0 (fixC ad F M ++ (XO ao o ++ fixM am G N)) h H) (hS : va_S (x_A N0) s.heap H locs) (hk : k + mc ≤ 601024) (hn : n + ms ≤ 7293034) (hl : lv_has ls 7 [(0, .ref b), (1, .ref (ad 1000)), (2, .ref (am 1000)), (3, .ref ao), (4, .int x4)]) (hw : wL_law_b507 K23 gp ad am ao b F M G N o h mc ms x4) : W p l e room_1 s m args below meth c H locs k n Q (F0 m 507 ls []) := by
  obtain ⟨⟨hx, hb, hml, hown, hts⟩, hr, hlocks, hG, hN⟩ := id C
  unfold wL_law_b507 at hw
  refine lv_goto (tgt := 510) hx hb dL_law_507 (by decide) ?_
  exact kL_law_b510 C hlt hend hK23 hR hS hk hn (lv_sub hl [0, 1, 2, 3, 4] rfl) hw
def wL_law_b516 (gp : Nat → Nat) (ad am : Nat → Nat) (ao b : Nat) (F : (Nat → Int32)) (M : (Nat → Nat → Int32)) (G : (Nat → Int32)) (N : (Nat → Nat → Int32)) (o : (Nat → Int64)) (h : x_H) (mc : Nat) (ms : Nat) : Prop :=
  True
theorem kL_law_b516 (C : x_C p s m args meth c cL_law 7 (some .boolean) RX0 D N0 gp) (hlt : l.stackTraces = false) (hend : ∀ (H : Heap) (locs : List Loc) (ls : Array Slot) (k n : Nat), va_S (x_A N0) s.heap H locs → k ≤ 601024 → n ≤ 7293034 → W p l e room_1 s m args below meth c H locs k n Q (F0 m 517 ls [.int 1])) {F : (Nat → Int32)} {M : (Nat → Nat → Int32)} {G : (Nat → Int32)} {N : (Nat → Nat → Int32)} {o : (Nat → Int64)} {h : x_H} {mc : Nat} {ms : Nat} {k n : Nat} {H : Heap} {locs : List Loc} {ls : Array Slot} (hR : x_R D s N0 (fixC ad F M ++ (XO ao o ++ fixM am G N)) h H) (hS : va_S (x_A N0) s.heap H locs) (hk : k + mc ≤ 601024) (hn : n + ms ≤ 7293034) (hl : lv_has ls 7 []) (hw : wL_law_b516 gp ad am ao b F M G N o h mc ms) : W p l e room_1 s m args below meth c H locs k n Q (F0 m 516 ls []) := by
  obtain ⟨⟨hx, hb, hml, hown, hts⟩, hr, hlocks, hG, hN⟩ := id C
  unfold wL_law_b516 at hw
  refine lv_iconst (v := 1) hx hb dL_law_516 (by decide) ?_
  exact hend _ _ _ _ _ hS (x_le hk) (x_le hn)
def tL_law_b23 (K23 : (Nat → Int32) → (Nat → Nat → Int32) → (Nat → Int32) → (Nat → Nat → Int32) → (Nat → Int64) → x_H → Nat → Nat → Int32 → Prop) (gp : Nat → Nat) (ad am : Nat → Nat) (ao b : Nat) (F : (Nat → Int32)) (M : (Nat → Nat → Int32)) (G : (Nat → Int32)) (N : (Nat → Nat → Int32)) (o : (Nat → Int64)) (h : x_H) (mc : Nat) (ms : Nat) (x4 : Int32) : Prop :=
  ∃ (t1 : Nat) (ty2 : FieldType) (x3 : vp_A), h b = some (t1, .inl (ty2, x3)) ∧ (((nI x3.1) - 5) < x4 → wL_law_b516 gp ad am ao b F M G N o h mc ms) ∧ (¬ ((nI x3.1) - 5) < x4 → ∃ (t6 n7 : Nat) (f8 : Nat → Int32), h b = some (t6, .inl (.int, (n7, .inl f8))) ∧ vp_in x4 n7 ∧ (((f8 x4.toNatClampNeg) &&& 15) = 0 → ∃ (t11 n12 : Nat) (f13 : Nat → Int32), h b = some (t11, .inl (.int, (n12, .inl f13))) ∧ vp_in (x4 + 1) n12 ∧ ∃ (t16 n17 : Nat) (f18 : Nat → Int32), h b = some (t16, .inl (.int, (n17, .inl f18))) ∧ vp_in (x4 + 2) n17 ∧ ∃ (t21 n22 : Nat) (f23 : Nat → Int32), h b = some (t21, .inl (.int, (n22, .inl f23))) ∧ vp_in (x4 + 3) n22 ∧ ∃ (t26 n27 : Nat) (f28 : Nat → Int32), h b = some (t26, .inl (.int, (n27, .inl f28))) ∧ vp_in (x4 + 4) n27 ∧ ∃ ca32 cb33 mc34 ms35 : Nat, ca32 + mc34 ≤ mc ∧ cb33 + ms35 ≤ ms ∧ wX0_page (fun r31 F36 M36 o36 h37 => ∃ (t38 n39 : Nat) (f40 : Nat → Int32), h37 b = some (t38, .inl (.int, (n39, .inl f40))) ∧ vp_in (x4 + 1) n39 ∧ ∃ (t43 n44 : Nat) (f45 : Nat → Int32), h37 b = some (t43, .inl (.int, (n44, .inl f45))) ∧ vp_in (x4 + 2) n44 ∧ ∃ (t48 n49 : Nat) (f50 : Nat → Int32), h37 b = some (t48, .inl (.int, (n49, .inl f50))) ∧ vp_in (x4 + 3) n49 ∧ ∃ (t53 n54 : Nat) (f55 : Nat → Int32), h37 b = some (t53, .inl (.int, (n54, .inl f55))) ∧ vp_in (x4 + 4) n54 ∧ wX6_page (fun r58 F59 M59 => wX6_thrown (fun r60 => (r60 = r31 → (r31 = 0 → ((if r58.toInt64 < (o36 ((0 : Int32).toNatClampNeg)) then (1 : Int32) else if (o36 ((0 : Int32).toNatClampNeg)) = r58.toInt64 then 0 else -1) = 0 → wL_law_b181 K23 gp ad am ao b F36 M36 F59 M59 o36 h37 mc34 ms35 x4) ∧ (¬ (if r58.toInt64 < (o36 ((0 : Int32).toNatClampNeg)) then (1 : Int32) else if (o36 ((0 : Int32).toNatClampNeg)) = r58.toInt64 then 0 else -1) = 0 → False)) ∧ (¬ r31 = 0 → wL_law_b181 K23 gp ad am ao b F36 M36 F59 M59 o36 h37 mc34 ms35 x4)) ∧ (¬ r60 = r31 → False)) F59 M59) (f40 (x4 + 1).toNatClampNeg) (f45 (x4 + 2).toNatClampNeg) (f50 (x4 + 3).toNatClampNeg) (f55 (x4 + 4).toNatClampNeg) G N) gp ad (f13 (x4 + 1).toNatClampNeg) (f18 (x4 + 2).toNatClampNeg) (f23 (x4 + 3).toNatClampNeg) (f28 (x4 + 4).toNatClampNeg) F M o h ca32 cb33) ∧ (((f8 x4.toNatClampNeg) &&& 15) = 1 → ∃ (t64 n65 : Nat) (f66 : Nat → Int32), h b = some (t64, .inl (.int, (n65, .inl f66))) ∧ vp_in (x4 + 1) n65 ∧ ∃ (t69 n70 : Nat) (f71 : Nat → Int32), h b = some (t69, .inl (.int, (n70, .inl f71))) ∧ vp_in (x4 + 2) n70 ∧ ∃ ca75 cb76 mc77 ms78 : Nat, ca75 + mc77 ≤ mc ∧ cb76 + ms78 ≤ ms ∧ wX1_feed (fun r74 F79 M79 h80 => ∃ (t81 n82 : Nat) (f83 : Nat → Int32), h80 b = some (t81, .inl (.int, (n82, .inl f83))) ∧ vp_in (x4 + 1) n82 ∧ ∃ (t86 n87 : Nat) (f88 : Nat → Int32), h80 b = some (t86, .inl (.int, (n87, .inl f88))) ∧ vp_in (x4 + 2) n87 ∧ wX6_feed (fun r91 F92 M92 => (r74 = r91 → wL_law_b510 K23 gp ad am ao b F79 M79 F92 M92 o h80 mc77 ms78 x4) ∧ (¬ r74 = r91 → False)) (f83 (x4 + 1).toNatClampNeg) (f88 (x4 + 2).toNatClampNeg) G N) gp ad (f66 (x4 + 1).toNatClampNeg) (f71 (x4 + 2).toNatClampNeg) F M h ca75 cb76) ∧ (((f8 x4.toNatClampNeg) &&& 15) = 2 → ∃ ca94 cb95 mc96 ms97 : Nat, ca94 + mc96 ≤ mc ∧ cb95 + ms97 ≤ ms ∧ wX1_restart (fun F98 M98 h99 => wX6_restart (fun F100 M100 => wL_law_b510 K23 gp ad am ao b F98 M98 F100 M100 o h99 mc96 ms97 x4) G N) gp ad F M h ca94 cb95) ∧ (((f8 x4.toNatClampNeg) &&& 15) = 3 → wX1_waiting (fun r101 => wX6_waiting (fun r102 F103 M103 => (r101 = r102 → wL_law_b510 K23 gp ad am ao b F M F103 M103 o h mc ms x4) ∧ (¬ r101 = r102 → False)) G N) ad F M h) ∧ (((f8 x4.toNatClampNeg) &&& 15) = 4 → ∃ (t105 n106 : Nat) (f107 : Nat → Int32), h b = some (t105, .inl (.int, (n106, .inl f107))) ∧ vp_in (x4 + 1) n106 ∧ ∃ ca111 cb112 mc113 ms114 : Nat, ca111 + mc113 ≤ mc ∧ cb112 + ms114 ≤ ms ∧ wX0_out (fun r110 F115 M115 o115 h116 => ∃ (t117 n118 : Nat) (f119 : Nat → Int32), h116 b = some (t117, .inl (.int, (n118, .inl f119))) ∧ vp_in (x4 + 1) n118 ∧ wX6_out (fun r122 F123 M123 => wX6_thrown (fun r124 => (r124 = r110 → (r110 = 0 → ((if r122.toInt64 < (o115 ((0 : Int32).toNatClampNeg)) then (1 : Int32) else if (o115 ((0 : Int32).toNatClampNeg)) = r122.toInt64 then 0 else -1) = 0 → wL_law_b298 K23 gp ad am ao b F115 M115 F123 M123 o115 h116 mc113 ms114 x4) ∧ (¬ (if r122.toInt64 < (o115 ((0 : Int32).toNatClampNeg)) then (1 : Int32) else if (o115 ((0 : Int32).toNatClampNeg)) = r122.toInt64 then 0 else -1) = 0 → False)) ∧ (¬ r110 = 0 → wL_law_b298 K23 gp ad am ao b F115 M115 F123 M123 o115 h116 mc113 ms114 x4)) ∧ (¬ r124 = r110 → False)) F123 M123) (f119 (x4 + 1).toNatClampNeg) G N) ad (f107 (x4 + 1).toNatClampNeg) F M o h ca111 cb112) ∧ (((f8 x4.toNatClampNeg) &&& 15) = 5 → ∃ (t128 n129 : Nat) (f130 : Nat → Int32), h b = some (t128, .inl (.int, (n129, .inl f130))) ∧ vp_in (x4 + 1) n129 ∧ wX1_take (fun F133 M133 h134 => ∃ (t135 n136 : Nat) (f137 : Nat → Int32), h134 b = some (t135, .inl (.int, (n136, .inl f137))) ∧ vp_in (x4 + 1) n136 ∧ wX6_take (fun F140 M140 => wL_law_b510 K23 gp ad am ao b F133 M133 F140 M140 o h134 mc ms x4) (f137 (x4 + 1).toNatClampNeg) G N) ad (f130 (x4 + 1).toNatClampNeg) F M h) ∧ (((f8 x4.toNatClampNeg) &&& 15) = 6 → wX1_away (fun r141 => wX6_away (fun r142 F143 M143 => (r141 = r142 → wL_law_b510 K23 gp ad am ao b F M F143 M143 o h mc ms x4) ∧ (¬ r141 = r142 → False)) G N) ad F M h) ∧ (((f8 x4.toNatClampNeg) &&& 15) = 7 → ∃ (t145 n146 : Nat) (f147 : Nat → Int32), h b = some (t145, .inl (.int, (n146, .inl f147))) ∧ vp_in (x4 + 1) n146 ∧ wX1_about (fun r150 => ∃ (t151 n152 : Nat) (f153 : Nat → Int32), h b = some (t151, .inl (.int, (n152, .inl f153))) ∧ vp_in (x4 + 1) n152 ∧ wX6_about (fun r156 F157 M157 => (r150 = r156 → wL_law_b510 K23 gp ad am ao b F M F157 M157 o h mc ms x4) ∧ (¬ r150 = r156 → False)) (f153 (x4 + 1).toNatClampNeg) G N) ad (f147 (x4 + 1).toNatClampNeg) F M h) ∧ (((f8 x4.toNatClampNeg) &&& 15) = 8 → ∃ (t159 n160 : Nat) (f161 : Nat → Int32), h b = some (t159, .inl (.int, (n160, .inl f161))) ∧ vp_in (x4 + 1) n160 ∧ ∃ (t164 n165 : Nat) (f166 : Nat → Int32), h b = some (t164, .inl (.int, (n165, .inl f166))) ∧ vp_in (x4 + 2) n165 ∧ ∃ ca170 cb171 mc172 ms173 : Nat, ca170 + mc172 ≤ mc ∧ cb171 + ms173 ≤ ms ∧ wX0_stream (fun r169 F174 M174 o174 h175 => ∃ (t176 n177 : Nat) (f178 : Nat → Int32), h175 b = some (t176, .inl (.int, (n177, .inl f178))) ∧ vp_in (x4 + 1) n177 ∧ ∃ (t181 n182 : Nat) (f183 : Nat → Int32), h175 b = some (t181, .inl (.int, (n182, .inl f183))) ∧ vp_in (x4 + 2) n182 ∧ wX6_stream (fun r186 F187 M187 => wX6_thrown (fun r188 => (r188 = r169 → (r169 = 0 → ((if r186.toInt64 < (o174 ((0 : Int32).toNatClampNeg)) then (1 : Int32) else if (o174 ((0 : Int32).toNatClampNeg)) = r186.toInt64 then 0 else -1) = 0 → wL_law_b427 K23 gp ad am ao b F174 M174 F187 M187 o174 h175 mc172 ms173 x4) ∧ (¬ (if r186.toInt64 < (o174 ((0 : Int32).toNatClampNeg)) then (1 : Int32) else if (o174 ((0 : Int32).toNatClampNeg)) = r186.toInt64 then 0 else -1) = 0 → False)) ∧ (¬ r169 = 0 → wL_law_b427 K23 gp ad am ao b F174 M174 F187 M187 o174 h175 mc172 ms173 x4)) ∧ (¬ r188 = r169 → False)) F187 M187) (f178 (x4 + 1).toNatClampNeg) (f183 (x4 + 2).toNatClampNeg) G N) ad (f161 (x4 + 1).toNatClampNeg) (f166 (x4 + 2).toNatClampNeg) F M o h ca170 cb171) ∧ (((f8 x4.toNatClampNeg) &&& 15) = 9 → ∃ (t192 n193 : Nat) (f194 : Nat → Int32), h b = some (t192, .inl (.int, (n193, .inl f194))) ∧ vp_in (x4 + 1) n193 ∧ ∃ (t197 n198 : Nat) (f199 : Nat → Int32), h b = some (t197, .inl (.int, (n198, .inl f199))) ∧ vp_in (x4 + 2) n198 ∧ ∃ (t202 n203 : Nat) (f204 : Nat → Int32), h b = some (t202, .inl (.int, (n203, .inl f204))) ∧ vp_in (x4 + 3) n203 ∧ ∃ ca208 cb209 mc210 ms211 : Nat, ca208 + mc210 ≤ mc ∧ cb209 + ms211 ≤ ms ∧ wX0_entry (fun r207 F212 M212 o212 h213 => ∃ (t214 n215 : Nat) (f216 : Nat → Int32), h213 b = some (t214, .inl (.int, (n215, .inl f216))) ∧ vp_in (x4 + 1) n215 ∧ ∃ (t219 n220 : Nat) (f221 : Nat → Int32), h213 b = some (t219, .inl (.int, (n220, .inl f221))) ∧ vp_in (x4 + 2) n220 ∧ ∃ (t224 n225 : Nat) (f226 : Nat → Int32), h213 b = some (t224, .inl (.int, (n225, .inl f226))) ∧ vp_in (x4 + 3) n225 ∧ wX6_entry (fun r229 F230 M230 => wX6_thrown (fun r231 => (r231 = r207 → (r207 = 0 → ((if r229.toInt64 < (o212 ((0 : Int32).toNatClampNeg)) then (1 : Int32) else if (o212 ((0 : Int32).toNatClampNeg)) = r229.toInt64 then 0 else -1) = 0 → wL_law_b507 K23 gp ad am ao b F212 M212 F230 M230 o212 h213 mc210 ms211 x4) ∧ (¬ (if r229.toInt64 < (o212 ((0 : Int32).toNatClampNeg)) then (1 : Int32) else if (o212 ((0 : Int32).toNatClampNeg)) = r229.toInt64 then 0 else -1) = 0 → False)) ∧ (¬ r207 = 0 → wL_law_b507 K23 gp ad am ao b F212 M212 F230 M230 o212 h213 mc210 ms211 x4)) ∧ (¬ r231 = r207 → False)) F230 M230) (f216 (x4 + 1).toNatClampNeg) (f221 (x4 + 2).toNatClampNeg) (f226 (x4 + 3).toNatClampNeg) G N) gp ad (f194 (x4 + 1).toNatClampNeg) (f199 (x4 + 2).toNatClampNeg) (f204 (x4 + 3).toNatClampNeg) F M o h ca208 cb209) ∧ (¬ ((f8 x4.toNatClampNeg) &&& 15) = 0 → ¬ ((f8 x4.toNatClampNeg) &&& 15) = 1 → ¬ ((f8 x4.toNatClampNeg) &&& 15) = 2 → ¬ ((f8 x4.toNatClampNeg) &&& 15) = 3 → ¬ ((f8 x4.toNatClampNeg) &&& 15) = 4 → ¬ ((f8 x4.toNatClampNeg) &&& 15) = 5 → ¬ ((f8 x4.toNatClampNeg) &&& 15) = 6 → ¬ ((f8 x4.toNatClampNeg) &&& 15) = 7 → ¬ ((f8 x4.toNatClampNeg) &&& 15) = 8 → ¬ ((f8 x4.toNatClampNeg) &&& 15) = 9 → wL_law_b510 K23 gp ad am ao b F M G N o h mc ms x4))
def wL_law_b23 (gp : Nat → Nat) (ad am : Nat → Nat) (ao b : Nat) : Nat → (Nat → Int32) → (Nat → Nat → Int32) → (Nat → Int32) → (Nat → Nat → Int32) → (Nat → Int64) → x_H → Nat → Nat → Int32 → Prop
  | 0 => fun _ _ _ _ _ _ _ _ _ => False
  | n + 1 => fun F M G N o h mc ms x4 => tL_law_b23 (wL_law_b23 gp ad am ao b n) gp ad am ao b F M G N o h mc ms x4
theorem kL_law_b23 (C : x_C p s m args meth c cL_law 7 (some .boolean) RX0 D N0 gp) (hlt : l.stackTraces = false) (hend : ∀ (H : Heap) (locs : List Loc) (ls : Array Slot) (k n : Nat), va_S (x_A N0) s.heap H locs → k ≤ 601024 → n ≤ 7293034 → W p l e room_1 s m args below meth c H locs k n Q (F0 m 517 ls [.int 1])) : ∀ (nn : Nat) (F : (Nat → Int32)) (M : (Nat → Nat → Int32)) (G : (Nat → Int32)) (N : (Nat → Nat → Int32)) (o : (Nat → Int64)) (h : x_H) (mc : Nat) (ms : Nat) (x4 : Int32) (k n : Nat) (H : Heap) (locs : List Loc) (ls : Array Slot), x_R D s N0 (fixC ad F M ++ (XO ao o ++ fixM am G N)) h H → va_S (x_A N0) s.heap H locs → k + mc ≤ 601024 → n + ms ≤ 7293034 → lv_has ls 7 [(0, .ref b), (1, .ref (ad 1000)), (2, .ref (am 1000)), (3, .ref ao), (4, .int x4)] → wL_law_b23 gp ad am ao b nn F M G N o h mc ms x4 → W p l e room_1 s m args below meth c H locs k n Q (F0 m 23 ls []) := by
  obtain ⟨⟨hx, hb, hml, hown, hts⟩, hr, hlocks, hG, hN⟩ := id C
  intro nn
  induction nn with
  | zero =>
    intro F M G N o h mc ms x4 k n H locs ls hR hS hk hn hl hw
    exact False.elim hw
  | succ nn ih =>
    intro F M G N o h mc ms x4 k n H locs ls hR hS hk hn hl hw
    have hK23 := ih
    replace hw : tL_law_b23 (wL_law_b23 gp ad am ao b nn) gp ad am ao b F M G N o h mc ms x4 := hw
    unfold tL_law_b23 at hw
    refine lv_iload hx hb dL_law_23 (lv_at hl 4 rfl) ?_
    refine lv_aload_n hx hb dL_law_25 rfl (lv_at hl 0 rfl) ?_
    obtain ⟨t1, ty2, x3, he4, hw⟩ := hw
    refine x_alen C (hR.rdH he4) dL_law_26 ?_
    refine lv_iconst (v := 5) hx hb dL_law_27 (by decide) ?_
    refine lv_isub hx hb dL_law_28 ?_
    refine lv_icmp_gt (tgt := 516) hx hb dL_law_29 (by decide) (fun c5 => ?_) (fun c5 => ?_)
    · replace hw := hw.1 c5
      exact kL_law_b516 C hlt hend hR hS hk hn (lv_sub hl [] rfl) hw
    · replace hw := hw.2 c5
      refine lv_aload_n hx hb dL_law_32 rfl (lv_at hl 0 rfl) ?_
      refine lv_iload hx hb dL_law_33 (lv_at hl 4 rfl) ?_
      obtain ⟨t6, n7, f8, he9, b10, hw⟩ := hw
      refine x_iald (n := n7) (f := f8) C (hR.rdH he9) b10 dL_law_35 ?_
      refine lv_bipush (v := 15) hx hb dL_law_36 (by decide) ?_
      refine lv_iand hx hb dL_law_38 ?_
      by_cases c39_0 : ((f8 x4.toNatClampNeg) &&& 15) = 0
      · replace hw := hw.1 c39_0
        refine lv_tableIn (tgt := 92) (off := 53) hx hb dL_law_39 (by rw [c39_0]; decide) (by rw [c39_0]; decide) (by rw [c39_0]; decide) (by decide) ?_
        refine lv_aload_n hx hb dL_law_92 rfl (lv_at hl 1 rfl) ?_
        refine lv_aload_n hx hb dL_law_93 rfl (lv_at hl 0 rfl) ?_
        refine lv_iload hx hb dL_law_94 (lv_at hl 4 rfl) ?_
        refine lv_iconst (v := 1) hx hb dL_law_96 (by decide) ?_
        refine lv_iadd hx hb dL_law_97 ?_
        obtain ⟨t11, n12, f13, he14, b15, hw⟩ := hw
        refine x_iald (n := n12) (f := f13) C (hR.rdH he14) b15 dL_law_98 ?_
        refine lv_aload_n hx hb dL_law_99 rfl (lv_at hl 0 rfl) ?_
        refine lv_iload hx hb dL_law_100 (lv_at hl 4 rfl) ?_
        refine lv_iconst (v := 2) hx hb dL_law_102 (by decide) ?_
        refine lv_iadd hx hb dL_law_103 ?_
        obtain ⟨t16, n17, f18, he19, b20, hw⟩ := hw
        refine x_iald (n := n17) (f := f18) C (hR.rdH he19) b20 dL_law_104 ?_
        refine lv_aload_n hx hb dL_law_105 rfl (lv_at hl 0 rfl) ?_
        refine lv_iload hx hb dL_law_106 (lv_at hl 4 rfl) ?_
        refine lv_iconst (v := 3) hx hb dL_law_108 (by decide) ?_
        refine lv_iadd hx hb dL_law_109 ?_
        obtain ⟨t21, n22, f23, he24, b25, hw⟩ := hw
        refine x_iald (n := n22) (f := f23) C (hR.rdH he24) b25 dL_law_110 ?_
        refine lv_aload_n hx hb dL_law_111 rfl (lv_at hl 0 rfl) ?_
        refine lv_iload hx hb dL_law_112 (lv_at hl 4 rfl) ?_
        refine lv_iconst (v := 4) hx hb dL_law_114 (by decide) ?_
        refine lv_iadd hx hb dL_law_115 ?_
        obtain ⟨t26, n27, f28, he29, b30, hw⟩ := hw
        refine x_iald (n := n27) (f := f28) C (hR.rdH he29) b30 dL_law_116 ?_
        refine lv_aload_n hx hb dL_law_117 rfl (lv_at hl 3 rfl) ?_
        obtain ⟨ca32, cb33, mc34, ms35, hca32, hcb33, hw⟩ := hw
        refine x_calli (x_runSW (n := 6) (As := [.ref (ad 1000), .int (f13 (x4 + 1).toNatClampNeg), .int (f18 (x4 + 2).toNatClampNeg), .int (f23 (x4 + 3).toNatClampNeg), .int (f28 (x4 + 4).toNatClampNeg), .ref ao]) C hR hS (kX0_page l D N0 gp ad ao _ (f13 (x4 + 1).toNatClampNeg) (f18 (x4 + 2).toNatClampNeg) (f23 (x4 + 3).toNatClampNeg) (f28 (x4 + 4).toNatClampNeg) F M o h ca32 cb33 _ hlt hw) (lw_SW q1079 q1080 q84 q1081) rfl rfl (by decide +kernel) ⟨Nat.le_of_ble_eq_true rfl, Nat.le_of_ble_eq_true rfl⟩ rfl hl.1 rfl (Nat.le_of_ble_eq_true rfl) dL_law_118 ⟨x_bud hk hca32, x_bud hn hcb33⟩) hS (fun r31 X1 h37 H locs hq hR hS => ?_)
        clear hw
        obtain ⟨F36, M36, o36, e1, hw⟩ := hq
        rw [e1] at hR
        have hk := x_budN hk hca32
        have hn := x_budN hn hcb33
        refine lv_istore (lv' := [(5, .int r31), (0, .ref b), (1, .ref (ad 1000)), (2, .ref (am 1000)), (3, .ref ao), (4, .int x4)]) hx hb dL_law_121 hl (by decide) rfl (fun ls hl => ?_)
        refine lv_aload_n hx hb dL_law_123 rfl (lv_at hl 3 rfl) ?_
        refine lv_aload_n hx hb dL_law_124 rfl (lv_at hl 1 rfl) ?_
        refine lv_iload hx hb dL_law_125 (lv_at hl 5 rfl) ?_
        refine lv_iconst (v := 1) hx hb dL_law_127 (by decide) ?_
        refine lv_iadd hx hb dL_law_128 ?_
        obtain ⟨t38, n39, f40, he41, b42, hw⟩ := hw
        refine x_iald (n := n39) (f := f40) C (hR.rdH he41) b42 dL_law_129 ?_
        refine lv_aload_n hx hb dL_law_130 rfl (lv_at hl 1 rfl) ?_
        refine lv_iload hx hb dL_law_131 (lv_at hl 5 rfl) ?_
        refine lv_iconst (v := 2) hx hb dL_law_133 (by decide) ?_
        refine lv_iadd hx hb dL_law_134 ?_
        obtain ⟨t43, n44, f45, he46, b47, hw⟩ := hw
        refine x_iald (n := n44) (f := f45) C (hR.rdH he46) b47 dL_law_135 ?_
        refine lv_aload_n hx hb dL_law_136 rfl (lv_at hl 1 rfl) ?_
        refine lv_iload hx hb dL_law_137 (lv_at hl 5 rfl) ?_
        refine lv_iconst (v := 3) hx hb dL_law_139 (by decide) ?_
        refine lv_iadd hx hb dL_law_140 ?_
        obtain ⟨t48, n49, f50, he51, b52, hw⟩ := hw
        refine x_iald (n := n49) (f := f50) C (hR.rdH he51) b52 dL_law_141 ?_
        refine lv_aload_n hx hb dL_law_142 rfl (lv_at hl 1 rfl) ?_
        refine lv_iload hx hb dL_law_143 (lv_at hl 5 rfl) ?_
        refine lv_iconst (v := 4) hx hb dL_law_145 (by decide) ?_
        refine lv_iadd hx hb dL_law_146 ?_
        obtain ⟨t53, n54, f55, he56, b57, hw⟩ := hw
        refine x_iald (n := n54) (f := f55) C (hR.rdH he56) b57 dL_law_147 ?_
        refine x_calli0 (x_runV (n := 4) (As := [.int (f40 (x4 + 1).toNatClampNeg), .int (f45 (x4 + 2).toNatClampNeg), .int (f50 (x4 + 3).toNatClampNeg), .int (f55 (x4 + 4).toNatClampNeg)]) C (x_LM hR) hS (kX6_page l D N0 gp am _ _ (f40 (x4 + 1).toNatClampNeg) (f45 (x4 + 2).toNatClampNeg) (f50 (x4 + 3).toNatClampNeg) (f55 (x4 + 4).toNatClampNeg) G N _ hw) (lw_V q1352 q1353 q1354 q104 q1355) rfl rfl (by decide +kernel) ⟨Nat.le_of_ble_eq_true rfl, Nat.le_of_ble_eq_true rfl⟩ (x_recv C ((x_LM hR).rdX 0 rfl) rfl) rfl hl.1 rfl (Nat.le_of_ble_eq_true rfl) dL_law_148 ⟨x_bud0 hk, x_bud0 hn⟩) hS (fun r58 X1 h1 H locs hq hR hS => ?_)
        clear hw
        obtain ⟨F59, M59, e1, e2, hw⟩ := hq
        rw [e1, e2] at hR
        replace hR := x_ML hR
        refine lv_istore (lv' := [(6, .int r58), (5, .int r31), (0, .ref b), (1, .ref (ad 1000)), (2, .ref (am 1000)), (3, .ref ao), (4, .int x4)]) hx hb dL_law_151 hl (by decide) rfl (fun ls hl => ?_)
        refine lv_aload_n hx hb dL_law_153 rfl (lv_at hl 4 rfl) ?_
        refine x_calli0 (x_runV (n := 0) (As := []) C (x_LM hR) hS (kX6_thrown l D N0 gp am _ _ F59 M59 _ hw) (lw_V q1348 q1349 q1350 q104 q1351) rfl rfl (by decide +kernel) ⟨Nat.le_of_ble_eq_true rfl, Nat.le_of_ble_eq_true rfl⟩ (x_recv C ((x_LM hR).rdX 0 rfl) rfl) rfl hl.1 rfl (Nat.le_of_ble_eq_true rfl) dL_law_154 ⟨x_bud0 hk, x_bud0 hn⟩) hS (fun r60 X1 h1 H locs hq hR hS => ?_)
        clear hw
        obtain ⟨e1, e2, hw⟩ := hq
        rw [e1, e2] at hR
        replace hR := x_ML hR
        refine lv_iload hx hb dL_law_157 (lv_at hl 1 rfl) ?_
        refine lv_icmp_eq (tgt := 164) hx hb dL_law_159 (by decide) (fun c61 => ?_) (fun c61 => ?_)
        · replace hw := hw.1 c61
          refine lv_iload hx hb dL_law_164 (lv_at hl 1 rfl) ?_
          refine lv_if_ne (tgt := 181) hx hb dL_law_166 (by decide) (fun c62 => ?_) (fun c62 => ?_)
          · replace hw := hw.2 c62
            exact kL_law_b181 C hlt hend hK23 hR hS hk hn (lv_sub hl [2, 3, 4, 5, 6] rfl) hw
          · replace hw := hw.1 c62
            refine lv_aload_n hx hb dL_law_169 rfl (lv_at hl 5 rfl) ?_
            refine lv_iconst (v := 0) hx hb dL_law_170 (by decide) ?_
            refine x_lald (n := 1) (f := o36) C (hR.rdX 6 rfl) (by unfold vp_in; decide) dL_law_171 ?_
            refine lv_iload hx hb dL_law_172 (lv_at hl 0 rfl) ?_
            refine lv_i2l hx hb dL_law_174 rfl ?_
            refine x_lcmp hx hb dL_law_175 ?_
            refine lv_if_eq (tgt := 181) hx hb dL_law_176 (by decide) (fun c63 => ?_) (fun c63 => ?_)
            · replace hw := hw.1 c63
              exact kL_law_b181 C hlt hend hK23 hR hS hk hn (lv_sub hl [2, 3, 4, 5, 6] rfl) hw
            · replace hw := hw.2 c63
              refine lv_iconst (v := 0) hx hb dL_law_179 (by decide) ?_
              exact False.elim hw
        · replace hw := hw.2 c61
          refine lv_iconst (v := 0) hx hb dL_law_162 (by decide) ?_
          exact False.elim hw
      · skip
        by_cases c39_1 : ((f8 x4.toNatClampNeg) &&& 15) = 1
        · replace hw := hw.2.1 c39_1
          refine lv_tableIn (tgt := 184) (off := 145) hx hb dL_law_39 (by rw [c39_1]; decide) (by rw [c39_1]; decide) (by rw [c39_1]; decide) (by decide) ?_
          refine lv_aload_n hx hb dL_law_184 rfl (lv_at hl 1 rfl) ?_
          refine lv_aload_n hx hb dL_law_185 rfl (lv_at hl 0 rfl) ?_
          refine lv_iload hx hb dL_law_186 (lv_at hl 4 rfl) ?_
          refine lv_iconst (v := 1) hx hb dL_law_188 (by decide) ?_
          refine lv_iadd hx hb dL_law_189 ?_
          obtain ⟨t64, n65, f66, he67, b68, hw⟩ := hw
          refine x_iald (n := n65) (f := f66) C (hR.rdH he67) b68 dL_law_190 ?_
          refine lv_aload_n hx hb dL_law_191 rfl (lv_at hl 0 rfl) ?_
          refine lv_iload hx hb dL_law_192 (lv_at hl 4 rfl) ?_
          refine lv_iconst (v := 2) hx hb dL_law_194 (by decide) ?_
          refine lv_iadd hx hb dL_law_195 ?_
          obtain ⟨t69, n70, f71, he72, b73, hw⟩ := hw
          refine x_iald (n := n70) (f := f71) C (hR.rdH he72) b73 dL_law_196 ?_
          obtain ⟨ca75, cb76, mc77, ms78, hca75, hcb76, hw⟩ := hw
          refine x_calli (x_runV (n := 2) (As := [.int (f66 (x4 + 1).toNatClampNeg), .int (f71 (x4 + 2).toNatClampNeg)]) C hR hS (kX1_feed l D N0 gp ad _ (f66 (x4 + 1).toNatClampNeg) (f71 (x4 + 2).toNatClampNeg) F M h ca75 cb76 _ hlt hw) (lw_V q476 q477 q478 q85 q479) rfl rfl (by decide +kernel) ⟨Nat.le_of_ble_eq_true rfl, Nat.le_of_ble_eq_true rfl⟩ (x_recv C (hR.rdX 0 rfl) rfl) rfl hl.1 rfl (Nat.le_of_ble_eq_true rfl) dL_law_197 ⟨x_bud hk hca75, x_bud hn hcb76⟩) hS (fun r74 X1 h80 H locs hq hR hS => ?_)
          clear hw
          obtain ⟨F79, M79, e1, hw⟩ := hq
          rw [e1] at hR
          have hk := x_budN hk hca75
          have hn := x_budN hn hcb76
          refine lv_aload_n hx hb dL_law_200 rfl (lv_at hl 2 rfl) ?_
          refine lv_aload_n hx hb dL_law_201 rfl (lv_at hl 0 rfl) ?_
          refine lv_iload hx hb dL_law_202 (lv_at hl 4 rfl) ?_
          refine lv_iconst (v := 1) hx hb dL_law_204 (by decide) ?_
          refine lv_iadd hx hb dL_law_205 ?_
          obtain ⟨t81, n82, f83, he84, b85, hw⟩ := hw
          refine x_iald (n := n82) (f := f83) C (hR.rdH he84) b85 dL_law_206 ?_
          refine lv_aload_n hx hb dL_law_207 rfl (lv_at hl 0 rfl) ?_
          refine lv_iload hx hb dL_law_208 (lv_at hl 4 rfl) ?_
          refine lv_iconst (v := 2) hx hb dL_law_210 (by decide) ?_
          refine lv_iadd hx hb dL_law_211 ?_
          obtain ⟨t86, n87, f88, he89, b90, hw⟩ := hw
          refine x_iald (n := n87) (f := f88) C (hR.rdH he89) b90 dL_law_212 ?_
          refine x_calli0 (x_runV (n := 2) (As := [.int (f83 (x4 + 1).toNatClampNeg), .int (f88 (x4 + 2).toNatClampNeg)]) C (x_LM hR) hS (kX6_feed l D N0 gp am _ _ (f83 (x4 + 1).toNatClampNeg) (f88 (x4 + 2).toNatClampNeg) G N _ hw) (lw_V q1383 q1384 q1385 q104 q1386) rfl rfl (by decide +kernel) ⟨Nat.le_of_ble_eq_true rfl, Nat.le_of_ble_eq_true rfl⟩ (x_recv C ((x_LM hR).rdX 0 rfl) rfl) rfl hl.1 rfl (Nat.le_of_ble_eq_true rfl) dL_law_213 ⟨x_bud0 hk, x_bud0 hn⟩) hS (fun r91 X1 h1 H locs hq hR hS => ?_)
          clear hw
          obtain ⟨F92, M92, e1, e2, hw⟩ := hq
          rw [e1, e2] at hR
          replace hR := x_ML hR
          refine lv_icmp_eq (tgt := 510) hx hb dL_law_216 (by decide) (fun c93 => ?_) (fun c93 => ?_)
          · replace hw := hw.1 c93
            exact kL_law_b510 C hlt hend hK23 hR hS hk hn (lv_sub hl [0, 1, 2, 3, 4] rfl) hw
          · replace hw := hw.2 c93
            refine lv_iconst (v := 0) hx hb dL_law_219 (by decide) ?_
            exact False.elim hw
        · skip
          by_cases c39_2 : ((f8 x4.toNatClampNeg) &&& 15) = 2
          · replace hw := hw.2.2.1 c39_2
            refine lv_tableIn (tgt := 221) (off := 182) hx hb dL_law_39 (by rw [c39_2]; decide) (by rw [c39_2]; decide) (by rw [c39_2]; decide) (by decide) ?_
            refine lv_aload_n hx hb dL_law_221 rfl (lv_at hl 1 rfl) ?_
            obtain ⟨ca94, cb95, mc96, ms97, hca94, hcb95, hw⟩ := hw
            refine x_callv (x_runV (n := 0) (As := []) C hR hS (kX1_restart l D N0 gp ad _ F M h ca94 cb95 _ hw) (lw_V q475 q355 q356 q85 q357) rfl rfl (by decide +kernel) ⟨Nat.le_of_ble_eq_true rfl, Nat.le_of_ble_eq_true rfl⟩ (x_recv C (hR.rdX 0 rfl) rfl) rfl hl.1 rfl (Nat.le_of_ble_eq_true rfl) dL_law_222 ⟨x_bud hk hca94, x_bud hn hcb95⟩) hS (fun X1 h99 H locs hq hR hS => ?_)
            clear hw
            obtain ⟨F98, M98, e1, hw⟩ := hq
            rw [e1] at hR
            have hk := x_budN hk hca94
            have hn := x_budN hn hcb95
            refine lv_aload_n hx hb dL_law_225 rfl (lv_at hl 2 rfl) ?_
            refine x_callv0 (x_runV (n := 0) (As := []) C (x_LM hR) hS (kX6_restart l D N0 gp am _ _ G N _ hw) (lw_V q1547 q1548 q1549 q104 q1550) rfl rfl (by decide +kernel) ⟨Nat.le_of_ble_eq_true rfl, Nat.le_of_ble_eq_true rfl⟩ (x_recv C ((x_LM hR).rdX 0 rfl) rfl) rfl hl.1 rfl (Nat.le_of_ble_eq_true rfl) dL_law_226 ⟨x_bud0 hk, x_bud0 hn⟩) hS (fun X1 h1 H locs hq hR hS => ?_)
            clear hw
            obtain ⟨F100, M100, e1, e2, hw⟩ := hq
            rw [e1, e2] at hR
            replace hR := x_ML hR
            refine lv_goto (tgt := 510) hx hb dL_law_229 (by decide) ?_
            exact kL_law_b510 C hlt hend hK23 hR hS hk hn (lv_sub hl [0, 1, 2, 3, 4] rfl) hw
          · skip
            by_cases c39_3 : ((f8 x4.toNatClampNeg) &&& 15) = 3
            · replace hw := hw.2.2.2.1 c39_3
              refine lv_tableIn (tgt := 232) (off := 193) hx hb dL_law_39 (by rw [c39_3]; decide) (by rw [c39_3]; decide) (by rw [c39_3]; decide) (by decide) ?_
              refine lv_aload_n hx hb dL_law_232 rfl (lv_at hl 1 rfl) ?_
              refine x_calli0 (x_runV (n := 0) (As := []) C hR hS (kX1_waiting l D N0 gp ad _ F M h _ hw) (lw_V q1062 q1063 q1064 q85 q1065) rfl rfl (by decide +kernel) ⟨Nat.le_of_ble_eq_true rfl, Nat.le_of_ble_eq_true rfl⟩ (x_recv C (hR.rdX 0 rfl) rfl) rfl hl.1 rfl (Nat.le_of_ble_eq_true rfl) dL_law_233 ⟨x_bud0 hk, x_bud0 hn⟩) hS (fun r101 X1 h1 H locs hq hR hS => ?_)
              clear hw
              obtain ⟨e1, e2, hw⟩ := hq
              rw [e1, e2] at hR
              refine lv_aload_n hx hb dL_law_236 rfl (lv_at hl 2 rfl) ?_
              refine x_calli0 (x_runV (n := 0) (As := []) C (x_LM hR) hS (kX6_waiting l D N0 gp am _ _ G N _ hw) (lw_V q1551 q1552 q1553 q104 q1554) rfl rfl (by decide +kernel) ⟨Nat.le_of_ble_eq_true rfl, Nat.le_of_ble_eq_true rfl⟩ (x_recv C ((x_LM hR).rdX 0 rfl) rfl) rfl hl.1 rfl (Nat.le_of_ble_eq_true rfl) dL_law_237 ⟨x_bud0 hk, x_bud0 hn⟩) hS (fun r102 X1 h1 H locs hq hR hS => ?_)
              clear hw
              obtain ⟨F103, M103, e1, e2, hw⟩ := hq
              rw [e1, e2] at hR
              replace hR := x_ML hR
              refine lv_icmp_eq (tgt := 510) hx hb dL_law_240 (by decide) (fun c104 => ?_) (fun c104 => ?_)
              · replace hw := hw.1 c104
                exact kL_law_b510 C hlt hend hK23 hR hS hk hn (lv_sub hl [0, 1, 2, 3, 4] rfl) hw
              · replace hw := hw.2 c104
                refine lv_iconst (v := 0) hx hb dL_law_243 (by decide) ?_
                exact False.elim hw
            · skip
              by_cases c39_4 : ((f8 x4.toNatClampNeg) &&& 15) = 4
              · replace hw := hw.2.2.2.2.1 c39_4
                refine lv_tableIn (tgt := 245) (off := 206) hx hb dL_law_39 (by rw [c39_4]; decide) (by rw [c39_4]; decide) (by rw [c39_4]; decide) (by decide) ?_
                refine lv_aload_n hx hb dL_law_245 rfl (lv_at hl 1 rfl) ?_
                refine lv_aload_n hx hb dL_law_246 rfl (lv_at hl 0 rfl) ?_
                refine lv_iload hx hb dL_law_247 (lv_at hl 4 rfl) ?_
                refine lv_iconst (v := 1) hx hb dL_law_249 (by decide) ?_
                refine lv_iadd hx hb dL_law_250 ?_
                obtain ⟨t105, n106, f107, he108, b109, hw⟩ := hw
                refine x_iald (n := n106) (f := f107) C (hR.rdH he108) b109 dL_law_251 ?_
                refine lv_aload_n hx hb dL_law_252 rfl (lv_at hl 3 rfl) ?_
                obtain ⟨ca111, cb112, mc113, ms114, hca111, hcb112, hw⟩ := hw
                refine x_calli (x_runSW (n := 3) (As := [.ref (ad 1000), .int (f107 (x4 + 1).toNatClampNeg), .ref ao]) C hR hS (kX0_out l D N0 gp ad ao _ (f107 (x4 + 1).toNatClampNeg) F M o h ca111 cb112 _ hlt hw) (lw_SW q1116 q1117 q84 q1118) rfl rfl (by decide +kernel) ⟨Nat.le_of_ble_eq_true rfl, Nat.le_of_ble_eq_true rfl⟩ rfl hl.1 rfl (Nat.le_of_ble_eq_true rfl) dL_law_253 ⟨x_bud hk hca111, x_bud hn hcb112⟩) hS (fun r110 X1 h116 H locs hq hR hS => ?_)
                clear hw
                obtain ⟨F115, M115, o115, e1, hw⟩ := hq
                rw [e1] at hR
                have hk := x_budN hk hca111
                have hn := x_budN hn hcb112
                refine lv_istore (lv' := [(5, .int r110), (0, .ref b), (1, .ref (ad 1000)), (2, .ref (am 1000)), (3, .ref ao), (4, .int x4)]) hx hb dL_law_256 hl (by decide) rfl (fun ls hl => ?_)
                refine lv_aload_n hx hb dL_law_258 rfl (lv_at hl 3 rfl) ?_
                refine lv_aload_n hx hb dL_law_259 rfl (lv_at hl 1 rfl) ?_
                refine lv_iload hx hb dL_law_260 (lv_at hl 5 rfl) ?_
                refine lv_iconst (v := 1) hx hb dL_law_262 (by decide) ?_
                refine lv_iadd hx hb dL_law_263 ?_
                obtain ⟨t117, n118, f119, he120, b121, hw⟩ := hw
                refine x_iald (n := n118) (f := f119) C (hR.rdH he120) b121 dL_law_264 ?_
                refine x_calli0 (x_runV (n := 1) (As := [.int (f119 (x4 + 1).toNatClampNeg)]) C (x_LM hR) hS (kX6_out l D N0 gp am _ _ (f119 (x4 + 1).toNatClampNeg) G N _ hw) (lw_V q1555 q1556 q1557 q104 q1558) rfl rfl (by decide +kernel) ⟨Nat.le_of_ble_eq_true rfl, Nat.le_of_ble_eq_true rfl⟩ (x_recv C ((x_LM hR).rdX 0 rfl) rfl) rfl hl.1 rfl (Nat.le_of_ble_eq_true rfl) dL_law_265 ⟨x_bud0 hk, x_bud0 hn⟩) hS (fun r122 X1 h1 H locs hq hR hS => ?_)
                clear hw
                obtain ⟨F123, M123, e1, e2, hw⟩ := hq
                rw [e1, e2] at hR
                replace hR := x_ML hR
                refine lv_istore (lv' := [(6, .int r122), (5, .int r110), (0, .ref b), (1, .ref (ad 1000)), (2, .ref (am 1000)), (3, .ref ao), (4, .int x4)]) hx hb dL_law_268 hl (by decide) rfl (fun ls hl => ?_)
                refine lv_aload_n hx hb dL_law_270 rfl (lv_at hl 4 rfl) ?_
                refine x_calli0 (x_runV (n := 0) (As := []) C (x_LM hR) hS (kX6_thrown l D N0 gp am _ _ F123 M123 _ hw) (lw_V q1348 q1349 q1350 q104 q1351) rfl rfl (by decide +kernel) ⟨Nat.le_of_ble_eq_true rfl, Nat.le_of_ble_eq_true rfl⟩ (x_recv C ((x_LM hR).rdX 0 rfl) rfl) rfl hl.1 rfl (Nat.le_of_ble_eq_true rfl) dL_law_271 ⟨x_bud0 hk, x_bud0 hn⟩) hS (fun r124 X1 h1 H locs hq hR hS => ?_)
                clear hw
                obtain ⟨e1, e2, hw⟩ := hq
                rw [e1, e2] at hR
                replace hR := x_ML hR
                refine lv_iload hx hb dL_law_274 (lv_at hl 1 rfl) ?_
                refine lv_icmp_eq (tgt := 281) hx hb dL_law_276 (by decide) (fun c125 => ?_) (fun c125 => ?_)
                · replace hw := hw.1 c125
                  refine lv_iload hx hb dL_law_281 (lv_at hl 1 rfl) ?_
                  refine lv_if_ne (tgt := 298) hx hb dL_law_283 (by decide) (fun c126 => ?_) (fun c126 => ?_)
                  · replace hw := hw.2 c126
                    exact kL_law_b298 C hlt hend hK23 hR hS hk hn (lv_sub hl [2, 3, 4, 5, 6] rfl) hw
                  · replace hw := hw.1 c126
                    refine lv_aload_n hx hb dL_law_286 rfl (lv_at hl 5 rfl) ?_
                    refine lv_iconst (v := 0) hx hb dL_law_287 (by decide) ?_
                    refine x_lald (n := 1) (f := o115) C (hR.rdX 6 rfl) (by unfold vp_in; decide) dL_law_288 ?_
                    refine lv_iload hx hb dL_law_289 (lv_at hl 0 rfl) ?_
                    refine lv_i2l hx hb dL_law_291 rfl ?_
                    refine x_lcmp hx hb dL_law_292 ?_
                    refine lv_if_eq (tgt := 298) hx hb dL_law_293 (by decide) (fun c127 => ?_) (fun c127 => ?_)
                    · replace hw := hw.1 c127
                      exact kL_law_b298 C hlt hend hK23 hR hS hk hn (lv_sub hl [2, 3, 4, 5, 6] rfl) hw
                    · replace hw := hw.2 c127
                      refine lv_iconst (v := 0) hx hb dL_law_296 (by decide) ?_
                      exact False.elim hw
                · replace hw := hw.2 c125
                  refine lv_iconst (v := 0) hx hb dL_law_279 (by decide) ?_
                  exact False.elim hw
              · skip
                by_cases c39_5 : ((f8 x4.toNatClampNeg) &&& 15) = 5
                · replace hw := hw.2.2.2.2.2.1 c39_5
                  refine lv_tableIn (tgt := 301) (off := 262) hx hb dL_law_39 (by rw [c39_5]; decide) (by rw [c39_5]; decide) (by rw [c39_5]; decide) (by decide) ?_
                  refine lv_aload_n hx hb dL_law_301 rfl (lv_at hl 1 rfl) ?_
                  refine lv_aload_n hx hb dL_law_302 rfl (lv_at hl 0 rfl) ?_
                  refine lv_iload hx hb dL_law_303 (lv_at hl 4 rfl) ?_
                  refine lv_iconst (v := 1) hx hb dL_law_305 (by decide) ?_
                  refine lv_iadd hx hb dL_law_306 ?_
                  obtain ⟨t128, n129, f130, he131, b132, hw⟩ := hw
                  refine x_iald (n := n129) (f := f130) C (hR.rdH he131) b132 dL_law_307 ?_
                  refine x_callv0 (x_runV (n := 1) (As := [.int (f130 (x4 + 1).toNatClampNeg)]) C hR hS (kX1_take l D N0 gp ad _ (f130 (x4 + 1).toNatClampNeg) F M h _ hw) (lw_V q1066 q1067 q1068 q85 q1069) rfl rfl (by decide +kernel) ⟨Nat.le_of_ble_eq_true rfl, Nat.le_of_ble_eq_true rfl⟩ (x_recv C (hR.rdX 0 rfl) rfl) rfl hl.1 rfl (Nat.le_of_ble_eq_true rfl) dL_law_308 ⟨x_bud0 hk, x_bud0 hn⟩) hS (fun X1 h134 H locs hq hR hS => ?_)
                  clear hw
                  obtain ⟨F133, M133, e1, hw⟩ := hq
                  rw [e1] at hR
                  refine lv_aload_n hx hb dL_law_311 rfl (lv_at hl 2 rfl) ?_
                  refine lv_aload_n hx hb dL_law_312 rfl (lv_at hl 0 rfl) ?_
                  refine lv_iload hx hb dL_law_313 (lv_at hl 4 rfl) ?_
                  refine lv_iconst (v := 1) hx hb dL_law_315 (by decide) ?_
                  refine lv_iadd hx hb dL_law_316 ?_
                  obtain ⟨t135, n136, f137, he138, b139, hw⟩ := hw
                  refine x_iald (n := n136) (f := f137) C (hR.rdH he138) b139 dL_law_317 ?_
                  refine x_callv0 (x_runV (n := 1) (As := [.int (f137 (x4 + 1).toNatClampNeg)]) C (x_LM hR) hS (kX6_take l D N0 gp am _ _ (f137 (x4 + 1).toNatClampNeg) G N _ hw) (lw_V q1559 q1560 q1561 q104 q1562) rfl rfl (by decide +kernel) ⟨Nat.le_of_ble_eq_true rfl, Nat.le_of_ble_eq_true rfl⟩ (x_recv C ((x_LM hR).rdX 0 rfl) rfl) rfl hl.1 rfl (Nat.le_of_ble_eq_true rfl) dL_law_318 ⟨x_bud0 hk, x_bud0 hn⟩) hS (fun X1 h1 H locs hq hR hS => ?_)
                  clear hw
                  obtain ⟨F140, M140, e1, e2, hw⟩ := hq
                  rw [e1, e2] at hR
                  replace hR := x_ML hR
                  refine lv_goto (tgt := 510) hx hb dL_law_321 (by decide) ?_
                  exact kL_law_b510 C hlt hend hK23 hR hS hk hn (lv_sub hl [0, 1, 2, 3, 4] rfl) hw
                · skip
                  by_cases c39_6 : ((f8 x4.toNatClampNeg) &&& 15) = 6
                  · replace hw := hw.2.2.2.2.2.2.1 c39_6
                    refine lv_tableIn (tgt := 324) (off := 285) hx hb dL_law_39 (by rw [c39_6]; decide) (by rw [c39_6]; decide) (by rw [c39_6]; decide) (by decide) ?_
                    refine lv_aload_n hx hb dL_law_324 rfl (lv_at hl 1 rfl) ?_
                    refine x_calli0 (x_runV (n := 0) (As := []) C hR hS (kX1_away l D N0 gp ad _ F M h _ hw) (lw_V q1070 q1071 q1072 q85 q1073) rfl rfl (by decide +kernel) ⟨Nat.le_of_ble_eq_true rfl, Nat.le_of_ble_eq_true rfl⟩ (x_recv C (hR.rdX 0 rfl) rfl) rfl hl.1 rfl (Nat.le_of_ble_eq_true rfl) dL_law_325 ⟨x_bud0 hk, x_bud0 hn⟩) hS (fun r141 X1 h1 H locs hq hR hS => ?_)
                    clear hw
                    obtain ⟨e1, e2, hw⟩ := hq
                    rw [e1, e2] at hR
                    refine lv_aload_n hx hb dL_law_328 rfl (lv_at hl 2 rfl) ?_
                    refine x_calli0 (x_runV (n := 0) (As := []) C (x_LM hR) hS (kX6_away l D N0 gp am _ _ G N _ hw) (lw_V q1563 q1564 q1565 q104 q1566) rfl rfl (by decide +kernel) ⟨Nat.le_of_ble_eq_true rfl, Nat.le_of_ble_eq_true rfl⟩ (x_recv C ((x_LM hR).rdX 0 rfl) rfl) rfl hl.1 rfl (Nat.le_of_ble_eq_true rfl) dL_law_329 ⟨x_bud0 hk, x_bud0 hn⟩) hS (fun r142 X1 h1 H locs hq hR hS => ?_)
                    clear hw
                    obtain ⟨F143, M143, e1, e2, hw⟩ := hq
                    rw [e1, e2] at hR
                    replace hR := x_ML hR
                    refine lv_icmp_eq (tgt := 510) hx hb dL_law_332 (by decide) (fun c144 => ?_) (fun c144 => ?_)
                    · replace hw := hw.1 c144
                      exact kL_law_b510 C hlt hend hK23 hR hS hk hn (lv_sub hl [0, 1, 2, 3, 4] rfl) hw
                    · replace hw := hw.2 c144
                      refine lv_iconst (v := 0) hx hb dL_law_335 (by decide) ?_
                      exact False.elim hw
                  · skip
                    by_cases c39_7 : ((f8 x4.toNatClampNeg) &&& 15) = 7
                    · replace hw := hw.2.2.2.2.2.2.2.1 c39_7
                      refine lv_tableIn (tgt := 337) (off := 298) hx hb dL_law_39 (by rw [c39_7]; decide) (by rw [c39_7]; decide) (by rw [c39_7]; decide) (by decide) ?_
                      refine lv_aload_n hx hb dL_law_337 rfl (lv_at hl 1 rfl) ?_
                      refine lv_aload_n hx hb dL_law_338 rfl (lv_at hl 0 rfl) ?_
                      refine lv_iload hx hb dL_law_339 (lv_at hl 4 rfl) ?_
                      refine lv_iconst (v := 1) hx hb dL_law_341 (by decide) ?_
                      refine lv_iadd hx hb dL_law_342 ?_
                      obtain ⟨t145, n146, f147, he148, b149, hw⟩ := hw
                      refine x_iald (n := n146) (f := f147) C (hR.rdH he148) b149 dL_law_343 ?_
                      refine x_calli0 (x_runV (n := 1) (As := [.int (f147 (x4 + 1).toNatClampNeg)]) C hR hS (kX1_about l D N0 gp ad _ (f147 (x4 + 1).toNatClampNeg) F M h _ hw) (lw_V q1074 q1075 q1076 q85 q1077) rfl rfl (by decide +kernel) ⟨Nat.le_of_ble_eq_true rfl, Nat.le_of_ble_eq_true rfl⟩ (x_recv C (hR.rdX 0 rfl) rfl) rfl hl.1 rfl (Nat.le_of_ble_eq_true rfl) dL_law_344 ⟨x_bud0 hk, x_bud0 hn⟩) hS (fun r150 X1 h1 H locs hq hR hS => ?_)
                      clear hw
                      obtain ⟨e1, e2, hw⟩ := hq
                      rw [e1, e2] at hR
                      refine lv_aload_n hx hb dL_law_347 rfl (lv_at hl 2 rfl) ?_
                      refine lv_aload_n hx hb dL_law_348 rfl (lv_at hl 0 rfl) ?_
                      refine lv_iload hx hb dL_law_349 (lv_at hl 4 rfl) ?_
                      refine lv_iconst (v := 1) hx hb dL_law_351 (by decide) ?_
                      refine lv_iadd hx hb dL_law_352 ?_
                      obtain ⟨t151, n152, f153, he154, b155, hw⟩ := hw
                      refine x_iald (n := n152) (f := f153) C (hR.rdH he154) b155 dL_law_353 ?_
                      refine x_calli0 (x_runV (n := 1) (As := [.int (f153 (x4 + 1).toNatClampNeg)]) C (x_LM hR) hS (kX6_about l D N0 gp am _ _ (f153 (x4 + 1).toNatClampNeg) G N _ hw) (lw_V q1567 q1568 q1569 q104 q1570) rfl rfl (by decide +kernel) ⟨Nat.le_of_ble_eq_true rfl, Nat.le_of_ble_eq_true rfl⟩ (x_recv C ((x_LM hR).rdX 0 rfl) rfl) rfl hl.1 rfl (Nat.le_of_ble_eq_true rfl) dL_law_354 ⟨x_bud0 hk, x_bud0 hn⟩) hS (fun r156 X1 h1 H locs hq hR hS => ?_)
                      clear hw
                      obtain ⟨F157, M157, e1, e2, hw⟩ := hq
                      rw [e1, e2] at hR
                      replace hR := x_ML hR
                      refine lv_icmp_eq (tgt := 510) hx hb dL_law_357 (by decide) (fun c158 => ?_) (fun c158 => ?_)
                      · replace hw := hw.1 c158
                        exact kL_law_b510 C hlt hend hK23 hR hS hk hn (lv_sub hl [0, 1, 2, 3, 4] rfl) hw
                      · replace hw := hw.2 c158
                        refine lv_iconst (v := 0) hx hb dL_law_360 (by decide) ?_
                        exact False.elim hw
                    · skip
                      by_cases c39_8 : ((f8 x4.toNatClampNeg) &&& 15) = 8
                      · replace hw := hw.2.2.2.2.2.2.2.2.1 c39_8
                        refine lv_tableIn (tgt := 362) (off := 323) hx hb dL_law_39 (by rw [c39_8]; decide) (by rw [c39_8]; decide) (by rw [c39_8]; decide) (by decide) ?_
                        refine lv_aload_n hx hb dL_law_362 rfl (lv_at hl 1 rfl) ?_
                        refine lv_aload_n hx hb dL_law_363 rfl (lv_at hl 0 rfl) ?_
                        refine lv_iload hx hb dL_law_364 (lv_at hl 4 rfl) ?_
                        refine lv_iconst (v := 1) hx hb dL_law_366 (by decide) ?_
                        refine lv_iadd hx hb dL_law_367 ?_
                        obtain ⟨t159, n160, f161, he162, b163, hw⟩ := hw
                        refine x_iald (n := n160) (f := f161) C (hR.rdH he162) b163 dL_law_368 ?_
                        refine lv_aload_n hx hb dL_law_369 rfl (lv_at hl 0 rfl) ?_
                        refine lv_iload hx hb dL_law_370 (lv_at hl 4 rfl) ?_
                        refine lv_iconst (v := 2) hx hb dL_law_372 (by decide) ?_
                        refine lv_iadd hx hb dL_law_373 ?_
                        obtain ⟨t164, n165, f166, he167, b168, hw⟩ := hw
                        refine x_iald (n := n165) (f := f166) C (hR.rdH he167) b168 dL_law_374 ?_
                        refine lv_aload_n hx hb dL_law_375 rfl (lv_at hl 3 rfl) ?_
                        obtain ⟨ca170, cb171, mc172, ms173, hca170, hcb171, hw⟩ := hw
                        refine x_calli (x_runSW (n := 4) (As := [.ref (ad 1000), .int (f161 (x4 + 1).toNatClampNeg), .int (f166 (x4 + 2).toNatClampNeg), .ref ao]) C hR hS (kX0_stream l D N0 gp ad ao _ (f161 (x4 + 1).toNatClampNeg) (f166 (x4 + 2).toNatClampNeg) F M o h ca170 cb171 _ hlt hw) (lw_SW q1142 q1143 q84 q1144) rfl rfl (by decide +kernel) ⟨Nat.le_of_ble_eq_true rfl, Nat.le_of_ble_eq_true rfl⟩ rfl hl.1 rfl (Nat.le_of_ble_eq_true rfl) dL_law_376 ⟨x_bud hk hca170, x_bud hn hcb171⟩) hS (fun r169 X1 h175 H locs hq hR hS => ?_)
                        clear hw
                        obtain ⟨F174, M174, o174, e1, hw⟩ := hq
                        rw [e1] at hR
                        have hk := x_budN hk hca170
                        have hn := x_budN hn hcb171
                        refine lv_istore (lv' := [(5, .int r169), (0, .ref b), (1, .ref (ad 1000)), (2, .ref (am 1000)), (3, .ref ao), (4, .int x4)]) hx hb dL_law_379 hl (by decide) rfl (fun ls hl => ?_)
                        refine lv_aload_n hx hb dL_law_381 rfl (lv_at hl 3 rfl) ?_
                        refine lv_aload_n hx hb dL_law_382 rfl (lv_at hl 1 rfl) ?_
                        refine lv_iload hx hb dL_law_383 (lv_at hl 5 rfl) ?_
                        refine lv_iconst (v := 1) hx hb dL_law_385 (by decide) ?_
                        refine lv_iadd hx hb dL_law_386 ?_
                        obtain ⟨t176, n177, f178, he179, b180, hw⟩ := hw
                        refine x_iald (n := n177) (f := f178) C (hR.rdH he179) b180 dL_law_387 ?_
                        refine lv_aload_n hx hb dL_law_388 rfl (lv_at hl 1 rfl) ?_
                        refine lv_iload hx hb dL_law_389 (lv_at hl 5 rfl) ?_
                        refine lv_iconst (v := 2) hx hb dL_law_391 (by decide) ?_
                        refine lv_iadd hx hb dL_law_392 ?_
                        obtain ⟨t181, n182, f183, he184, b185, hw⟩ := hw
                        refine x_iald (n := n182) (f := f183) C (hR.rdH he184) b185 dL_law_393 ?_
                        refine x_calli0 (x_runV (n := 2) (As := [.int (f178 (x4 + 1).toNatClampNeg), .int (f183 (x4 + 2).toNatClampNeg)]) C (x_LM hR) hS (kX6_stream l D N0 gp am _ _ (f178 (x4 + 1).toNatClampNeg) (f183 (x4 + 2).toNatClampNeg) G N _ hw) (lw_V q1571 q1572 q1573 q104 q1574) rfl rfl (by decide +kernel) ⟨Nat.le_of_ble_eq_true rfl, Nat.le_of_ble_eq_true rfl⟩ (x_recv C ((x_LM hR).rdX 0 rfl) rfl) rfl hl.1 rfl (Nat.le_of_ble_eq_true rfl) dL_law_394 ⟨x_bud0 hk, x_bud0 hn⟩) hS (fun r186 X1 h1 H locs hq hR hS => ?_)
                        clear hw
                        obtain ⟨F187, M187, e1, e2, hw⟩ := hq
                        rw [e1, e2] at hR
                        replace hR := x_ML hR
                        refine lv_istore (lv' := [(6, .int r186), (5, .int r169), (0, .ref b), (1, .ref (ad 1000)), (2, .ref (am 1000)), (3, .ref ao), (4, .int x4)]) hx hb dL_law_397 hl (by decide) rfl (fun ls hl => ?_)
                        refine lv_aload_n hx hb dL_law_399 rfl (lv_at hl 4 rfl) ?_
                        refine x_calli0 (x_runV (n := 0) (As := []) C (x_LM hR) hS (kX6_thrown l D N0 gp am _ _ F187 M187 _ hw) (lw_V q1348 q1349 q1350 q104 q1351) rfl rfl (by decide +kernel) ⟨Nat.le_of_ble_eq_true rfl, Nat.le_of_ble_eq_true rfl⟩ (x_recv C ((x_LM hR).rdX 0 rfl) rfl) rfl hl.1 rfl (Nat.le_of_ble_eq_true rfl) dL_law_400 ⟨x_bud0 hk, x_bud0 hn⟩) hS (fun r188 X1 h1 H locs hq hR hS => ?_)
                        clear hw
                        obtain ⟨e1, e2, hw⟩ := hq
                        rw [e1, e2] at hR
                        replace hR := x_ML hR
                        refine lv_iload hx hb dL_law_403 (lv_at hl 1 rfl) ?_
                        refine lv_icmp_eq (tgt := 410) hx hb dL_law_405 (by decide) (fun c189 => ?_) (fun c189 => ?_)
                        · replace hw := hw.1 c189
                          refine lv_iload hx hb dL_law_410 (lv_at hl 1 rfl) ?_
                          refine lv_if_ne (tgt := 427) hx hb dL_law_412 (by decide) (fun c190 => ?_) (fun c190 => ?_)
                          · replace hw := hw.2 c190
                            exact kL_law_b427 C hlt hend hK23 hR hS hk hn (lv_sub hl [2, 3, 4, 5, 6] rfl) hw
                          · replace hw := hw.1 c190
                            refine lv_aload_n hx hb dL_law_415 rfl (lv_at hl 5 rfl) ?_
                            refine lv_iconst (v := 0) hx hb dL_law_416 (by decide) ?_
                            refine x_lald (n := 1) (f := o174) C (hR.rdX 6 rfl) (by unfold vp_in; decide) dL_law_417 ?_
                            refine lv_iload hx hb dL_law_418 (lv_at hl 0 rfl) ?_
                            refine lv_i2l hx hb dL_law_420 rfl ?_
                            refine x_lcmp hx hb dL_law_421 ?_
                            refine lv_if_eq (tgt := 427) hx hb dL_law_422 (by decide) (fun c191 => ?_) (fun c191 => ?_)
                            · replace hw := hw.1 c191
                              exact kL_law_b427 C hlt hend hK23 hR hS hk hn (lv_sub hl [2, 3, 4, 5, 6] rfl) hw
                            · replace hw := hw.2 c191
                              refine lv_iconst (v := 0) hx hb dL_law_425 (by decide) ?_
                              exact False.elim hw
                        · replace hw := hw.2 c189
                          refine lv_iconst (v := 0) hx hb dL_law_408 (by decide) ?_
                          exact False.elim hw
                      · skip
                        by_cases c39_9 : ((f8 x4.toNatClampNeg) &&& 15) = 9
                        · replace hw := hw.2.2.2.2.2.2.2.2.2.1 c39_9
                          refine lv_tableIn (tgt := 430) (off := 391) hx hb dL_law_39 (by rw [c39_9]; decide) (by rw [c39_9]; decide) (by rw [c39_9]; decide) (by decide) ?_
                          refine lv_aload_n hx hb dL_law_430 rfl (lv_at hl 1 rfl) ?_
                          refine lv_aload_n hx hb dL_law_431 rfl (lv_at hl 0 rfl) ?_
                          refine lv_iload hx hb dL_law_432 (lv_at hl 4 rfl) ?_
                          refine lv_iconst (v := 1) hx hb dL_law_434 (by decide) ?_
                          refine lv_iadd hx hb dL_law_435 ?_
                          obtain ⟨t192, n193, f194, he195, b196, hw⟩ := hw
                          refine x_iald (n := n193) (f := f194) C (hR.rdH he195) b196 dL_law_436 ?_
                          refine lv_aload_n hx hb dL_law_437 rfl (lv_at hl 0 rfl) ?_
                          refine lv_iload hx hb dL_law_438 (lv_at hl 4 rfl) ?_
                          refine lv_iconst (v := 2) hx hb dL_law_440 (by decide) ?_
                          refine lv_iadd hx hb dL_law_441 ?_
                          obtain ⟨t197, n198, f199, he200, b201, hw⟩ := hw
                          refine x_iald (n := n198) (f := f199) C (hR.rdH he200) b201 dL_law_442 ?_
                          refine lv_aload_n hx hb dL_law_443 rfl (lv_at hl 0 rfl) ?_
                          refine lv_iload hx hb dL_law_444 (lv_at hl 4 rfl) ?_
                          refine lv_iconst (v := 3) hx hb dL_law_446 (by decide) ?_
                          refine lv_iadd hx hb dL_law_447 ?_
                          obtain ⟨t202, n203, f204, he205, b206, hw⟩ := hw
                          refine x_iald (n := n203) (f := f204) C (hR.rdH he205) b206 dL_law_448 ?_
                          refine lv_aload_n hx hb dL_law_449 rfl (lv_at hl 3 rfl) ?_
                          obtain ⟨ca208, cb209, mc210, ms211, hca208, hcb209, hw⟩ := hw
                          refine x_calli (x_runSW (n := 5) (As := [.ref (ad 1000), .int (f194 (x4 + 1).toNatClampNeg), .int (f199 (x4 + 2).toNatClampNeg), .int (f204 (x4 + 3).toNatClampNeg), .ref ao]) C hR hS (kX0_entry l D N0 gp ad ao _ (f194 (x4 + 1).toNatClampNeg) (f199 (x4 + 2).toNatClampNeg) (f204 (x4 + 3).toNatClampNeg) F M o h ca208 cb209 _ hlt hw) (lw_SW q1149 q1150 q84 q1151) rfl rfl (by decide +kernel) ⟨Nat.le_of_ble_eq_true rfl, Nat.le_of_ble_eq_true rfl⟩ rfl hl.1 rfl (Nat.le_of_ble_eq_true rfl) dL_law_450 ⟨x_bud hk hca208, x_bud hn hcb209⟩) hS (fun r207 X1 h213 H locs hq hR hS => ?_)
                          clear hw
                          obtain ⟨F212, M212, o212, e1, hw⟩ := hq
                          rw [e1] at hR
                          have hk := x_budN hk hca208
                          have hn := x_budN hn hcb209
                          refine lv_istore (lv' := [(5, .int r207), (0, .ref b), (1, .ref (ad 1000)), (2, .ref (am 1000)), (3, .ref ao), (4, .int x4)]) hx hb dL_law_453 hl (by decide) rfl (fun ls hl => ?_)
                          refine lv_aload_n hx hb dL_law_455 rfl (lv_at hl 3 rfl) ?_
                          refine lv_aload_n hx hb dL_law_456 rfl (lv_at hl 1 rfl) ?_
                          refine lv_iload hx hb dL_law_457 (lv_at hl 5 rfl) ?_
                          refine lv_iconst (v := 1) hx hb dL_law_459 (by decide) ?_
                          refine lv_iadd hx hb dL_law_460 ?_
                          obtain ⟨t214, n215, f216, he217, b218, hw⟩ := hw
                          refine x_iald (n := n215) (f := f216) C (hR.rdH he217) b218 dL_law_461 ?_
                          refine lv_aload_n hx hb dL_law_462 rfl (lv_at hl 1 rfl) ?_
                          refine lv_iload hx hb dL_law_463 (lv_at hl 5 rfl) ?_
                          refine lv_iconst (v := 2) hx hb dL_law_465 (by decide) ?_
                          refine lv_iadd hx hb dL_law_466 ?_
                          obtain ⟨t219, n220, f221, he222, b223, hw⟩ := hw
                          refine x_iald (n := n220) (f := f221) C (hR.rdH he222) b223 dL_law_467 ?_
                          refine lv_aload_n hx hb dL_law_468 rfl (lv_at hl 1 rfl) ?_
                          refine lv_iload hx hb dL_law_469 (lv_at hl 5 rfl) ?_
                          refine lv_iconst (v := 3) hx hb dL_law_471 (by decide) ?_
                          refine lv_iadd hx hb dL_law_472 ?_
                          obtain ⟨t224, n225, f226, he227, b228, hw⟩ := hw
                          refine x_iald (n := n225) (f := f226) C (hR.rdH he227) b228 dL_law_473 ?_
                          refine x_calli0 (x_runV (n := 3) (As := [.int (f216 (x4 + 1).toNatClampNeg), .int (f221 (x4 + 2).toNatClampNeg), .int (f226 (x4 + 3).toNatClampNeg)]) C (x_LM hR) hS (kX6_entry l D N0 gp am _ _ (f216 (x4 + 1).toNatClampNeg) (f221 (x4 + 2).toNatClampNeg) (f226 (x4 + 3).toNatClampNeg) G N _ hw) (lw_V q1575 q1576 q1577 q104 q1578) rfl rfl (by decide +kernel) ⟨Nat.le_of_ble_eq_true rfl, Nat.le_of_ble_eq_true rfl⟩ (x_recv C ((x_LM hR).rdX 0 rfl) rfl) rfl hl.1 rfl (Nat.le_of_ble_eq_true rfl) dL_law_474 ⟨x_bud0 hk, x_bud0 hn⟩) hS (fun r229 X1 h1 H locs hq hR hS => ?_)
                          clear hw
                          obtain ⟨F230, M230, e1, e2, hw⟩ := hq
                          rw [e1, e2] at hR
                          replace hR := x_ML hR
                          refine lv_istore (lv' := [(6, .int r229), (5, .int r207), (0, .ref b), (1, .ref (ad 1000)), (2, .ref (am 1000)), (3, .ref ao), (4, .int x4)]) hx hb dL_law_477 hl (by decide) rfl (fun ls hl => ?_)
                          refine lv_aload_n hx hb dL_law_479 rfl (lv_at hl 4 rfl) ?_
                          refine x_calli0 (x_runV (n := 0) (As := []) C (x_LM hR) hS (kX6_thrown l D N0 gp am _ _ F230 M230 _ hw) (lw_V q1348 q1349 q1350 q104 q1351) rfl rfl (by decide +kernel) ⟨Nat.le_of_ble_eq_true rfl, Nat.le_of_ble_eq_true rfl⟩ (x_recv C ((x_LM hR).rdX 0 rfl) rfl) rfl hl.1 rfl (Nat.le_of_ble_eq_true rfl) dL_law_480 ⟨x_bud0 hk, x_bud0 hn⟩) hS (fun r231 X1 h1 H locs hq hR hS => ?_)
                          clear hw
                          obtain ⟨e1, e2, hw⟩ := hq
                          rw [e1, e2] at hR
                          replace hR := x_ML hR
                          refine lv_iload hx hb dL_law_483 (lv_at hl 1 rfl) ?_
                          refine lv_icmp_eq (tgt := 490) hx hb dL_law_485 (by decide) (fun c232 => ?_) (fun c232 => ?_)
                          · replace hw := hw.1 c232
                            refine lv_iload hx hb dL_law_490 (lv_at hl 1 rfl) ?_
                            refine lv_if_ne (tgt := 507) hx hb dL_law_492 (by decide) (fun c233 => ?_) (fun c233 => ?_)
                            · replace hw := hw.2 c233
                              exact kL_law_b507 C hlt hend hK23 hR hS hk hn (lv_sub hl [2, 3, 4, 5, 6] rfl) hw
                            · replace hw := hw.1 c233
                              refine lv_aload_n hx hb dL_law_495 rfl (lv_at hl 5 rfl) ?_
                              refine lv_iconst (v := 0) hx hb dL_law_496 (by decide) ?_
                              refine x_lald (n := 1) (f := o212) C (hR.rdX 6 rfl) (by unfold vp_in; decide) dL_law_497 ?_
                              refine lv_iload hx hb dL_law_498 (lv_at hl 0 rfl) ?_
                              refine lv_i2l hx hb dL_law_500 rfl ?_
                              refine x_lcmp hx hb dL_law_501 ?_
                              refine lv_if_eq (tgt := 507) hx hb dL_law_502 (by decide) (fun c234 => ?_) (fun c234 => ?_)
                              · replace hw := hw.1 c234
                                exact kL_law_b507 C hlt hend hK23 hR hS hk hn (lv_sub hl [2, 3, 4, 5, 6] rfl) hw
                              · replace hw := hw.2 c234
                                refine lv_iconst (v := 0) hx hb dL_law_505 (by decide) ?_
                                exact False.elim hw
                          · replace hw := hw.2 c232
                            refine lv_iconst (v := 0) hx hb dL_law_488 (by decide) ?_
                            exact False.elim hw
                        · skip
                          replace hw := hw.2.2.2.2.2.2.2.2.2.2 c39_0 c39_1 c39_2 c39_3 c39_4 c39_5 c39_6 c39_7 c39_8 c39_9
                          have tc39_0 := lv_neT (a := 0) c39_0 (by decide)
                          have tc39_1 := lv_neT (a := 1) c39_1 (by decide)
                          have tc39_2 := lv_neT (a := 2) c39_2 (by decide)
                          have tc39_3 := lv_neT (a := 3) c39_3 (by decide)
                          have tc39_4 := lv_neT (a := 4) c39_4 (by decide)
                          have tc39_5 := lv_neT (a := 5) c39_5 (by decide)
                          have tc39_6 := lv_neT (a := 6) c39_6 (by decide)
                          have tc39_7 := lv_neT (a := 7) c39_7 (by decide)
                          have tc39_8 := lv_neT (a := 8) c39_8 (by decide)
                          have tc39_9 := lv_neT (a := 9) c39_9 (by decide)
                          refine lv_tableOut (tgt := 510) hx hb dL_law_39 (by omega) (by decide) ?_
                          exact kL_law_b510 C hlt hend hK23 hR hS hk hn (lv_sub hl [0, 1, 2, 3, 4] rfl) hw
end
