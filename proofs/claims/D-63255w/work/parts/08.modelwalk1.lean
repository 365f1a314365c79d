/-! the walks of PageServerModel, printed by gen/walk.py -/
set_option maxHeartbeats 4000000
set_option maxRecDepth 100000
/-- PageServerModel.fixed(IIIIIII)V -/
abbrev rmX6_fixed : Room := { frames := 0, cells := 0, slots := 0, locals := 0 }
section
variable {p : Program} {l : Launch} {e : Env} {s : State} {m : MethodId} {args : Array Value} {below : List Frame} {meth : Method} {c : Code} {D : va_G} {N0 : Nat} {gp : Nat → Nat} {ad : Nat → Nat} {XF : x_X} {h : x_H}
def wX6_fixed_b227 (post : (Nat → Int32) → (Nat → Nat → Int32) → Prop) (p1 : Int32) (p2 : Int32) (p3 : Int32) (p4 : Int32) (p5 : Int32) (p6 : Int32) (p7 : Int32) (F : (Nat → Int32)) (M : (Nat → Nat → Int32)) (s0 : Int32) : Prop :=
  vp_in p1 17 ∧ post F (va_up M 10 (upd (M 10) p1.toNatClampNeg s0))
theorem kX6_fixed_b227 {post : (Nat → Int32) → (Nat → Nat → Int32) → Prop} {p1 : Int32} {p2 : Int32} {p3 : Int32} {p4 : Int32} {p5 : Int32} {p6 : Int32} {p7 : Int32} (C : x_C p s m args meth c cX6_fixed 10 none RX6 D N0 gp) {F : (Nat → Int32)} {M : (Nat → Nat → Int32)} {s0 : Int32} {H : Heap} {locs : List Loc} {ls : Array Slot} (hR : x_R D s N0 (fixM ad F M ++ XF) h H) (hS : va_S (x_A N0) s.heap H locs) (hl : lv_has ls 10 []) (hw : wX6_fixed_b227 post p1 p2 p3 p4 p5 p6 p7 F M s0) : W p l e rmX6_fixed s m args below meth c H locs 0 0 (MQ below (x_Qc D N0 (x_Vv (qMv ad XF h post))) args s 0 0 (x_A N0)) (F0 m 227 ls [.int s0, .int p1, .ref (ad 10)]) := by
  obtain ⟨⟨hx, hb, hml, hown, hts⟩, hr, hlocks, hG, hN⟩ := id C
  unfold wX6_fixed_b227 at hw
  obtain ⟨b44, hw⟩ := hw
  refine x_iastX (n := 17) (f := (M 10)) C hR hS 7 rfl b44 (sM_a10 ..) dX6_fixed_227 (fun H locs hR hS => ?_)
  exact x_endv C hR hS ⟨rfl, ⟨_, _, rfl, rfl, hw⟩⟩ (Nat.le_refl _) (Nat.le_refl _) dX6_fixed_228
def wX6_fixed_b140 (post : (Nat → Int32) → (Nat → Nat → Int32) → Prop) (p1 : Int32) (p2 : Int32) (p3 : Int32) (p4 : Int32) (p5 : Int32) (p6 : Int32) (p7 : Int32) (F : (Nat → Int32)) (M : (Nat → Nat → Int32)) (x8 : Int32) (s0 : Int32) : Prop :=
  vp_in (((20 : Int32) * p1) + 5) 340 ∧ vp_in p1 17 ∧ vp_in ((20 : Int32) * p1) 340 ∧ vp_in (((20 : Int32) * p1) + 1) 340 ∧ vp_in (((20 : Int32) * p1) + 2) 340 ∧ vp_in (((20 : Int32) * p1) + 3) 340 ∧ (x8 = 0 → (p7 ≤ 0 → (p6 ≤ 0 → wX6_fixed_b227 post p1 p2 p3 p4 p5 p6 p7 F (va_up (va_up (va_up (va_up (va_up (va_up M 9 (upd (M 9) (((20 : Int32) * p1) + 5).toNatClampNeg (vp_nar .char s0))) 8 (upd (M 8) p1.toNatClampNeg 2)) 11 (upd (M 11) ((20 : Int32) * p1).toNatClampNeg (vp_nar .char ((p4.toUInt32 % 65536).toInt32)))) 11 (upd (upd (M 11) ((20 : Int32) * p1).toNatClampNeg (vp_nar .char ((p4.toUInt32 % 65536).toInt32))) (((20 : Int32) * p1) + 1).toNatClampNeg (vp_nar .char ((p5.toUInt32 % 65536).toInt32)))) 11 (upd (upd (upd (M 11) ((20 : Int32) * p1).toNatClampNeg (vp_nar .char ((p4.toUInt32 % 65536).toInt32))) (((20 : Int32) * p1) + 1).toNatClampNeg (vp_nar .char ((p5.toUInt32 % 65536).toInt32))) (((20 : Int32) * p1) + 2).toNatClampNeg (vp_nar .char ((p6.toUInt32 % 65536).toInt32)))) 11 (upd (upd (upd (upd (M 11) ((20 : Int32) * p1).toNatClampNeg (vp_nar .char ((p4.toUInt32 % 65536).toInt32))) (((20 : Int32) * p1) + 1).toNatClampNeg (vp_nar .char ((p5.toUInt32 % 65536).toInt32))) (((20 : Int32) * p1) + 2).toNatClampNeg (vp_nar .char ((p6.toUInt32 % 65536).toInt32))) (((20 : Int32) * p1) + 3).toNatClampNeg (vp_nar .char ((p7.toUInt32 % 65536).toInt32)))) 1) ∧ (¬ p6 ≤ 0 → wX6_fixed_b227 post p1 p2 p3 p4 p5 p6 p7 F (va_up (va_up (va_up (va_up (va_up (va_up M 9 (upd (M 9) (((20 : Int32) * p1) + 5).toNatClampNeg (vp_nar .char s0))) 8 (upd (M 8) p1.toNatClampNeg 2)) 11 (upd (M 11) ((20 : Int32) * p1).toNatClampNeg (vp_nar .char ((p4.toUInt32 % 65536).toInt32)))) 11 (upd (upd (M 11) ((20 : Int32) * p1).toNatClampNeg (vp_nar .char ((p4.toUInt32 % 65536).toInt32))) (((20 : Int32) * p1) + 1).toNatClampNeg (vp_nar .char ((p5.toUInt32 % 65536).toInt32)))) 11 (upd (upd (upd (M 11) ((20 : Int32) * p1).toNatClampNeg (vp_nar .char ((p4.toUInt32 % 65536).toInt32))) (((20 : Int32) * p1) + 1).toNatClampNeg (vp_nar .char ((p5.toUInt32 % 65536).toInt32))) (((20 : Int32) * p1) + 2).toNatClampNeg (vp_nar .char ((p6.toUInt32 % 65536).toInt32)))) 11 (upd (upd (upd (upd (M 11) ((20 : Int32) * p1).toNatClampNeg (vp_nar .char ((p4.toUInt32 % 65536).toInt32))) (((20 : Int32) * p1) + 1).toNatClampNeg (vp_nar .char ((p5.toUInt32 % 65536).toInt32))) (((20 : Int32) * p1) + 2).toNatClampNeg (vp_nar .char ((p6.toUInt32 % 65536).toInt32))) (((20 : Int32) * p1) + 3).toNatClampNeg (vp_nar .char ((p7.toUInt32 % 65536).toInt32)))) 3)) ∧ (¬ p7 ≤ 0 → wX6_fixed_b227 post p1 p2 p3 p4 p5 p6 p7 F (va_up (va_up (va_up (va_up (va_up (va_up M 9 (upd (M 9) (((20 : Int32) * p1) + 5).toNatClampNeg (vp_nar .char s0))) 8 (upd (M 8) p1.toNatClampNeg 2)) 11 (upd (M 11) ((20 : Int32) * p1).toNatClampNeg (vp_nar .char ((p4.toUInt32 % 65536).toInt32)))) 11 (upd (upd (M 11) ((20 : Int32) * p1).toNatClampNeg (vp_nar .char ((p4.toUInt32 % 65536).toInt32))) (((20 : Int32) * p1) + 1).toNatClampNeg (vp_nar .char ((p5.toUInt32 % 65536).toInt32)))) 11 (upd (upd (upd (M 11) ((20 : Int32) * p1).toNatClampNeg (vp_nar .char ((p4.toUInt32 % 65536).toInt32))) (((20 : Int32) * p1) + 1).toNatClampNeg (vp_nar .char ((p5.toUInt32 % 65536).toInt32))) (((20 : Int32) * p1) + 2).toNatClampNeg (vp_nar .char ((p6.toUInt32 % 65536).toInt32)))) 11 (upd (upd (upd (upd (M 11) ((20 : Int32) * p1).toNatClampNeg (vp_nar .char ((p4.toUInt32 % 65536).toInt32))) (((20 : Int32) * p1) + 1).toNatClampNeg (vp_nar .char ((p5.toUInt32 % 65536).toInt32))) (((20 : Int32) * p1) + 2).toNatClampNeg (vp_nar .char ((p6.toUInt32 % 65536).toInt32))) (((20 : Int32) * p1) + 3).toNatClampNeg (vp_nar .char ((p7.toUInt32 % 65536).toInt32)))) 4)) ∧ (¬ x8 = 0 → wX6_fixed_b227 post p1 p2 p3 p4 p5 p6 p7 F (va_up (va_up (va_up (va_up (va_up (va_up M 9 (upd (M 9) (((20 : Int32) * p1) + 5).toNatClampNeg (vp_nar .char s0))) 8 (upd (M 8) p1.toNatClampNeg 2)) 11 (upd (M 11) ((20 : Int32) * p1).toNatClampNeg (vp_nar .char ((p4.toUInt32 % 65536).toInt32)))) 11 (upd (upd (M 11) ((20 : Int32) * p1).toNatClampNeg (vp_nar .char ((p4.toUInt32 % 65536).toInt32))) (((20 : Int32) * p1) + 1).toNatClampNeg (vp_nar .char ((p5.toUInt32 % 65536).toInt32)))) 11 (upd (upd (upd (M 11) ((20 : Int32) * p1).toNatClampNeg (vp_nar .char ((p4.toUInt32 % 65536).toInt32))) (((20 : Int32) * p1) + 1).toNatClampNeg (vp_nar .char ((p5.toUInt32 % 65536).toInt32))) (((20 : Int32) * p1) + 2).toNatClampNeg (vp_nar .char ((p6.toUInt32 % 65536).toInt32)))) 11 (upd (upd (upd (upd (M 11) ((20 : Int32) * p1).toNatClampNeg (vp_nar .char ((p4.toUInt32 % 65536).toInt32))) (((20 : Int32) * p1) + 1).toNatClampNeg (vp_nar .char ((p5.toUInt32 % 65536).toInt32))) (((20 : Int32) * p1) + 2).toNatClampNeg (vp_nar .char ((p6.toUInt32 % 65536).toInt32))) (((20 : Int32) * p1) + 3).toNatClampNeg (vp_nar .char ((p7.toUInt32 % 65536).toInt32)))) 0)
theorem kX6_fixed_b140 {post : (Nat → Int32) → (Nat → Nat → Int32) → Prop} {p1 : Int32} {p2 : Int32} {p3 : Int32} {p4 : Int32} {p5 : Int32} {p6 : Int32} {p7 : Int32} (C : x_C p s m args meth c cX6_fixed 10 none RX6 D N0 gp) {F : (Nat → Int32)} {M : (Nat → Nat → Int32)} {x8 : Int32} {s0 : Int32} {H : Heap} {locs : List Loc} {ls : Array Slot} (hR : x_R D s N0 (fixM ad F M ++ XF) h H) (hS : va_S (x_A N0) s.heap H locs) (hl : lv_has ls 10 [(0, .ref (ad 1000)), (1, .int p1), (4, .int p4), (5, .int p5), (6, .int p6), (7, .int p7), (8, .int x8), (9, .int ((20 : Int32) * p1))]) (hw : wX6_fixed_b140 post p1 p2 p3 p4 p5 p6 p7 F M x8 s0) : W p l e rmX6_fixed s m args below meth c H locs 0 0 (MQ below (x_Qc D N0 (x_Vv (qMv ad XF h post))) args s 0 0 (x_A N0)) (F0 m 140 ls [.int s0, .int (((20 : Int32) * p1) + 5), .ref (ad 9)]) := by
  obtain ⟨⟨hx, hb, hml, hown, hts⟩, hr, hlocks, hG, hN⟩ := id C
  unfold wX6_fixed_b140 at hw
  obtain ⟨b35, hw⟩ := hw
  refine x_castX (n := 340) (f := (M 9)) C hR hS 6 rfl b35 (sM_a9 ..) dX6_fixed_140 (fun H locs hR hS => ?_)
  refine lv_aload_n hx hb dX6_fixed_141 rfl (lv_at hl 0 rfl) ?_
  refine x_get (ci := 5) (Cn := RX6) (T := TX6) (N := 55) (v := .ref (ad 8)) C (hR.rdX 0 rfl) rfl in_X6 8 (by decide) q1187 (fun _ h9 => h9) rfl dX6_fixed_142 ?_
  refine lv_iload_n hx hb dX6_fixed_145 rfl (lv_at hl 1 rfl) ?_
  refine lv_iconst (v := 2) hx hb dX6_fixed_146 (by decide) ?_
  obtain ⟨b36, hw⟩ := hw
  refine x_iastX (n := 17) (f := (M 8)) C hR hS 5 rfl b36 (sM_a8 ..) dX6_fixed_147 (fun H locs hR hS => ?_)
  refine lv_aload_n hx hb dX6_fixed_148 rfl (lv_at hl 0 rfl) ?_
  refine x_get (ci := 5) (Cn := RX6) (T := TX6) (N := 55) (v := .ref (ad 11)) C (hR.rdX 0 rfl) rfl in_X6 11 (by decide) q1190 (fun _ h9 => h9) rfl dX6_fixed_149 ?_
  refine lv_iload hx hb dX6_fixed_152 (lv_at hl 7 rfl) ?_
  refine lv_iload hx hb dX6_fixed_154 (lv_at hl 2 rfl) ?_
  refine lv_i2c hx hb dX6_fixed_156 rfl ?_
  obtain ⟨b37, hw⟩ := hw
  refine x_castX (n := 340) (f := (M 11)) C hR hS 8 rfl b37 (sM_a11 ..) dX6_fixed_157 (fun H locs hR hS => ?_)
  refine lv_aload_n hx hb dX6_fixed_158 rfl (lv_at hl 0 rfl) ?_
  refine x_get (ci := 5) (Cn := RX6) (T := TX6) (N := 55) (v := .ref (ad 11)) C (hR.rdX 0 rfl) rfl in_X6 11 (by decide) q1190 (fun _ h9 => h9) rfl dX6_fixed_159 ?_
  refine lv_iload hx hb dX6_fixed_162 (lv_at hl 7 rfl) ?_
  refine lv_iconst (v := 1) hx hb dX6_fixed_164 (by decide) ?_
  refine lv_iadd hx hb dX6_fixed_165 ?_
  refine lv_iload hx hb dX6_fixed_166 (lv_at hl 3 rfl) ?_
  refine lv_i2c hx hb dX6_fixed_168 rfl ?_
  obtain ⟨b38, hw⟩ := hw
  refine x_castX (n := 340) (f := upd (M 11) ((20 : Int32) * p1).toNatClampNeg (vp_nar .char ((p4.toUInt32 % 65536).toInt32))) C hR hS 8 rfl b38 (sM_a11 ..) dX6_fixed_169 (fun H locs hR hS => ?_)
  refine lv_aload_n hx hb dX6_fixed_170 rfl (lv_at hl 0 rfl) ?_
  refine x_get (ci := 5) (Cn := RX6) (T := TX6) (N := 55) (v := .ref (ad 11)) C (hR.rdX 0 rfl) rfl in_X6 11 (by decide) q1190 (fun _ h9 => h9) rfl dX6_fixed_171 ?_
  refine lv_iload hx hb dX6_fixed_174 (lv_at hl 7 rfl) ?_
  refine lv_iconst (v := 2) hx hb dX6_fixed_176 (by decide) ?_
  refine lv_iadd hx hb dX6_fixed_177 ?_
  refine lv_iload hx hb dX6_fixed_178 (lv_at hl 4 rfl) ?_
  refine lv_i2c hx hb dX6_fixed_180 rfl ?_
  obtain ⟨b39, hw⟩ := hw
  refine x_castX (n := 340) (f := upd (upd (M 11) ((20 : Int32) * p1).toNatClampNeg (vp_nar .char ((p4.toUInt32 % 65536).toInt32))) (((20 : Int32) * p1) + 1).toNatClampNeg (vp_nar .char ((p5.toUInt32 % 65536).toInt32))) C hR hS 8 rfl b39 (sM_a11 ..) dX6_fixed_181 (fun H locs hR hS => ?_)
  refine lv_aload_n hx hb dX6_fixed_182 rfl (lv_at hl 0 rfl) ?_
  refine x_get (ci := 5) (Cn := RX6) (T := TX6) (N := 55) (v := .ref (ad 11)) C (hR.rdX 0 rfl) rfl in_X6 11 (by decide) q1190 (fun _ h9 => h9) rfl dX6_fixed_183 ?_
  refine lv_iload hx hb dX6_fixed_186 (lv_at hl 7 rfl) ?_
  refine lv_iconst (v := 3) hx hb dX6_fixed_188 (by decide) ?_
  refine lv_iadd hx hb dX6_fixed_189 ?_
  refine lv_iload hx hb dX6_fixed_190 (lv_at hl 5 rfl) ?_
  refine lv_i2c hx hb dX6_fixed_192 rfl ?_
  obtain ⟨b40, hw⟩ := hw
  refine x_castX (n := 340) (f := upd (upd (upd (M 11) ((20 : Int32) * p1).toNatClampNeg (vp_nar .char ((p4.toUInt32 % 65536).toInt32))) (((20 : Int32) * p1) + 1).toNatClampNeg (vp_nar .char ((p5.toUInt32 % 65536).toInt32))) (((20 : Int32) * p1) + 2).toNatClampNeg (vp_nar .char ((p6.toUInt32 % 65536).toInt32))) C hR hS 8 rfl b40 (sM_a11 ..) dX6_fixed_193 (fun H locs hR hS => ?_)
  refine lv_aload_n hx hb dX6_fixed_194 rfl (lv_at hl 0 rfl) ?_
  refine x_get (ci := 5) (Cn := RX6) (T := TX6) (N := 55) (v := .ref (ad 10)) C (hR.rdX 0 rfl) rfl in_X6 10 (by decide) q1189 (fun _ h9 => h9) rfl dX6_fixed_195 ?_
  refine lv_iload_n hx hb dX6_fixed_198 rfl (lv_at hl 1 rfl) ?_
  refine lv_iload hx hb dX6_fixed_199 (lv_at hl 6 rfl) ?_
  refine lv_if_eq (tgt := 208) hx hb dX6_fixed_201 (by decide) (fun c41 => ?_) (fun c41 => ?_)
  · have hw := hw.1 c41
    refine lv_iload hx hb dX6_fixed_208 (lv_at hl 5 rfl) ?_
    refine lv_if_le (tgt := 217) hx hb dX6_fixed_210 (by decide) (fun c42 => ?_) (fun c42 => ?_)
    · have hw := hw.1 c42
      refine lv_iload hx hb dX6_fixed_217 (lv_at hl 4 rfl) ?_
      refine lv_if_le (tgt := 226) hx hb dX6_fixed_219 (by decide) (fun c43 => ?_) (fun c43 => ?_)
      · have hw := hw.1 c43
        refine lv_iconst (v := 1) hx hb dX6_fixed_226 (by decide) ?_
        exact kX6_fixed_b227 C hR hS (lv_sub hl [] rfl) hw
      · have hw := hw.2 c43
        refine lv_iconst (v := 3) hx hb dX6_fixed_222 (by decide) ?_
        refine lv_goto (tgt := 227) hx hb dX6_fixed_223 (by decide) ?_
        exact kX6_fixed_b227 C hR hS (lv_sub hl [] rfl) hw
    · have hw := hw.2 c42
      refine lv_iconst (v := 4) hx hb dX6_fixed_213 (by decide) ?_
      refine lv_goto (tgt := 227) hx hb dX6_fixed_214 (by decide) ?_
      exact kX6_fixed_b227 C hR hS (lv_sub hl [] rfl) hw
  · have hw := hw.2 c41
    refine lv_iconst (v := 0) hx hb dX6_fixed_204 (by decide) ?_
    refine lv_goto (tgt := 227) hx hb dX6_fixed_205 (by decide) ?_
    exact kX6_fixed_b227 C hR hS (lv_sub hl [] rfl) hw
def wX6_fixed_b119 (post : (Nat → Int32) → (Nat → Nat → Int32) → Prop) (p1 : Int32) (p2 : Int32) (p3 : Int32) (p4 : Int32) (p5 : Int32) (p6 : Int32) (p7 : Int32) (F : (Nat → Int32)) (M : (Nat → Nat → Int32)) (x8 : Int32) (s0 : Int32) : Prop :=
  vp_in (((20 : Int32) * p1) + 4) 340 ∧ (x8 = 0 → wX6_fixed_b140 post p1 p2 p3 p4 p5 p6 p7 F (va_up M 9 (upd (M 9) (((20 : Int32) * p1) + 4).toNatClampNeg (vp_nar .char s0))) x8 0) ∧ (¬ x8 = 0 → wX6_fixed_b140 post p1 p2 p3 p4 p5 p6 p7 F (va_up M 9 (upd (M 9) (((20 : Int32) * p1) + 4).toNatClampNeg (vp_nar .char s0))) x8 ((p7.toUInt32 % 65536).toInt32))
theorem kX6_fixed_b119 {post : (Nat → Int32) → (Nat → Nat → Int32) → Prop} {p1 : Int32} {p2 : Int32} {p3 : Int32} {p4 : Int32} {p5 : Int32} {p6 : Int32} {p7 : Int32} (C : x_C p s m args meth c cX6_fixed 10 none RX6 D N0 gp) {F : (Nat → Int32)} {M : (Nat → Nat → Int32)} {x8 : Int32} {s0 : Int32} {H : Heap} {locs : List Loc} {ls : Array Slot} (hR : x_R D s N0 (fixM ad F M ++ XF) h H) (hS : va_S (x_A N0) s.heap H locs) (hl : lv_has ls 10 [(0, .ref (ad 1000)), (1, .int p1), (4, .int p4), (5, .int p5), (6, .int p6), (7, .int p7), (8, .int x8), (9, .int ((20 : Int32) * p1))]) (hw : wX6_fixed_b119 post p1 p2 p3 p4 p5 p6 p7 F M x8 s0) : W p l e rmX6_fixed s m args below meth c H locs 0 0 (MQ below (x_Qc D N0 (x_Vv (qMv ad XF h post))) args s 0 0 (x_A N0)) (F0 m 119 ls [.int s0, .int (((20 : Int32) * p1) + 4), .ref (ad 9)]) := by
  obtain ⟨⟨hx, hb, hml, hown, hts⟩, hr, hlocks, hG, hN⟩ := id C
  unfold wX6_fixed_b119 at hw
  obtain ⟨b33, hw⟩ := hw
  refine x_castX (n := 340) (f := (M 9)) C hR hS 6 rfl b33 (sM_a9 ..) dX6_fixed_119 (fun H locs hR hS => ?_)
  refine lv_aload_n hx hb dX6_fixed_120 rfl (lv_at hl 0 rfl) ?_
  refine x_get (ci := 5) (Cn := RX6) (T := TX6) (N := 55) (v := .ref (ad 9)) C (hR.rdX 0 rfl) rfl in_X6 9 (by decide) q1188 (fun _ h9 => h9) rfl dX6_fixed_121 ?_
  refine lv_iload hx hb dX6_fixed_124 (lv_at hl 7 rfl) ?_
  refine lv_iconst (v := 5) hx hb dX6_fixed_126 (by decide) ?_
  refine lv_iadd hx hb dX6_fixed_127 ?_
  refine lv_iload hx hb dX6_fixed_128 (lv_at hl 6 rfl) ?_
  refine lv_if_eq (tgt := 139) hx hb dX6_fixed_130 (by decide) (fun c34 => ?_) (fun c34 => ?_)
  · have hw := hw.1 c34
    refine lv_iconst (v := 0) hx hb dX6_fixed_139 (by decide) ?_
    exact kX6_fixed_b140 C hR hS (lv_sub hl [0, 1, 2, 3, 4, 5, 6, 7] rfl) hw
  · have hw := hw.2 c34
    refine lv_iload hx hb dX6_fixed_133 (lv_at hl 5 rfl) ?_
    refine lv_i2c hx hb dX6_fixed_135 rfl ?_
    refine lv_goto (tgt := 140) hx hb dX6_fixed_136 (by decide) ?_
    exact kX6_fixed_b140 C hR hS (lv_sub hl [0, 1, 2, 3, 4, 5, 6, 7] rfl) hw
def wX6_fixed_b98 (post : (Nat → Int32) → (Nat → Nat → Int32) → Prop) (p1 : Int32) (p2 : Int32) (p3 : Int32) (p4 : Int32) (p5 : Int32) (p6 : Int32) (p7 : Int32) (F : (Nat → Int32)) (M : (Nat → Nat → Int32)) (x8 : Int32) (s0 : Int32) : Prop :=
  vp_in (((20 : Int32) * p1) + 3) 340 ∧ (x8 = 0 → wX6_fixed_b119 post p1 p2 p3 p4 p5 p6 p7 F (va_up M 9 (upd (M 9) (((20 : Int32) * p1) + 3).toNatClampNeg (vp_nar .char s0))) x8 0) ∧ (¬ x8 = 0 → wX6_fixed_b119 post p1 p2 p3 p4 p5 p6 p7 F (va_up M 9 (upd (M 9) (((20 : Int32) * p1) + 3).toNatClampNeg (vp_nar .char s0))) x8 ((p6.toUInt32 % 65536).toInt32))
theorem kX6_fixed_b98 {post : (Nat → Int32) → (Nat → Nat → Int32) → Prop} {p1 : Int32} {p2 : Int32} {p3 : Int32} {p4 : Int32} {p5 : Int32} {p6 : Int32} {p7 : Int32} (C : x_C p s m args meth c cX6_fixed 10 none RX6 D N0 gp) {F : (Nat → Int32)} {M : (Nat → Nat → Int32)} {x8 : Int32} {s0 : Int32} {H : Heap} {locs : List Loc} {ls : Array Slot} (hR : x_R D s N0 (fixM ad F M ++ XF) h H) (hS : va_S (x_A N0) s.heap H locs) (hl : lv_has ls 10 [(0, .ref (ad 1000)), (1, .int p1), (4, .int p4), (5, .int p5), (6, .int p6), (7, .int p7), (8, .int x8), (9, .int ((20 : Int32) * p1))]) (hw : wX6_fixed_b98 post p1 p2 p3 p4 p5 p6 p7 F M x8 s0) : W p l e rmX6_fixed s m args below meth c H locs 0 0 (MQ below (x_Qc D N0 (x_Vv (qMv ad XF h post))) args s 0 0 (x_A N0)) (F0 m 98 ls [.int s0, .int (((20 : Int32) * p1) + 3), .ref (ad 9)]) := by
  obtain ⟨⟨hx, hb, hml, hown, hts⟩, hr, hlocks, hG, hN⟩ := id C
  unfold wX6_fixed_b98 at hw
  obtain ⟨b31, hw⟩ := hw
  refine x_castX (n := 340) (f := (M 9)) C hR hS 6 rfl b31 (sM_a9 ..) dX6_fixed_98 (fun H locs hR hS => ?_)
  refine lv_aload_n hx hb dX6_fixed_99 rfl (lv_at hl 0 rfl) ?_
  refine x_get (ci := 5) (Cn := RX6) (T := TX6) (N := 55) (v := .ref (ad 9)) C (hR.rdX 0 rfl) rfl in_X6 9 (by decide) q1188 (fun _ h9 => h9) rfl dX6_fixed_100 ?_
  refine lv_iload hx hb dX6_fixed_103 (lv_at hl 7 rfl) ?_
  refine lv_iconst (v := 4) hx hb dX6_fixed_105 (by decide) ?_
  refine lv_iadd hx hb dX6_fixed_106 ?_
  refine lv_iload hx hb dX6_fixed_107 (lv_at hl 6 rfl) ?_
  refine lv_if_eq (tgt := 118) hx hb dX6_fixed_109 (by decide) (fun c32 => ?_) (fun c32 => ?_)
  · have hw := hw.1 c32
    refine lv_iconst (v := 0) hx hb dX6_fixed_118 (by decide) ?_
    exact kX6_fixed_b119 C hR hS (lv_sub hl [0, 1, 2, 3, 4, 5, 6, 7] rfl) hw
  · have hw := hw.2 c32
    refine lv_iload hx hb dX6_fixed_112 (lv_at hl 4 rfl) ?_
    refine lv_i2c hx hb dX6_fixed_114 rfl ?_
    refine lv_goto (tgt := 119) hx hb dX6_fixed_115 (by decide) ?_
    exact kX6_fixed_b119 C hR hS (lv_sub hl [0, 1, 2, 3, 4, 5, 6, 7] rfl) hw
def wX6_fixed_b77 (post : (Nat → Int32) → (Nat → Nat → Int32) → Prop) (p1 : Int32) (p2 : Int32) (p3 : Int32) (p4 : Int32) (p5 : Int32) (p6 : Int32) (p7 : Int32) (F : (Nat → Int32)) (M : (Nat → Nat → Int32)) (x8 : Int32) (s0 : Int32) : Prop :=
  vp_in (((20 : Int32) * p1) + 2) 340 ∧ (x8 = 0 → wX6_fixed_b98 post p1 p2 p3 p4 p5 p6 p7 F (va_up M 9 (upd (M 9) (((20 : Int32) * p1) + 2).toNatClampNeg (vp_nar .char s0))) x8 0) ∧ (¬ x8 = 0 → wX6_fixed_b98 post p1 p2 p3 p4 p5 p6 p7 F (va_up M 9 (upd (M 9) (((20 : Int32) * p1) + 2).toNatClampNeg (vp_nar .char s0))) x8 ((p5.toUInt32 % 65536).toInt32))
theorem kX6_fixed_b77 {post : (Nat → Int32) → (Nat → Nat → Int32) → Prop} {p1 : Int32} {p2 : Int32} {p3 : Int32} {p4 : Int32} {p5 : Int32} {p6 : Int32} {p7 : Int32} (C : x_C p s m args meth c cX6_fixed 10 none RX6 D N0 gp) {F : (Nat → Int32)} {M : (Nat → Nat → Int32)} {x8 : Int32} {s0 : Int32} {H : Heap} {locs : List Loc} {ls : Array Slot} (hR : x_R D s N0 (fixM ad F M ++ XF) h H) (hS : va_S (x_A N0) s.heap H locs) (hl : lv_has ls 10 [(0, .ref (ad 1000)), (1, .int p1), (4, .int p4), (5, .int p5), (6, .int p6), (7, .int p7), (8, .int x8), (9, .int ((20 : Int32) * p1))]) (hw : wX6_fixed_b77 post p1 p2 p3 p4 p5 p6 p7 F M x8 s0) : W p l e rmX6_fixed s m args below meth c H locs 0 0 (MQ below (x_Qc D N0 (x_Vv (qMv ad XF h post))) args s 0 0 (x_A N0)) (F0 m 77 ls [.int s0, .int (((20 : Int32) * p1) + 2), .ref (ad 9)]) := by
  obtain ⟨⟨hx, hb, hml, hown, hts⟩, hr, hlocks, hG, hN⟩ := id C
  unfold wX6_fixed_b77 at hw
  obtain ⟨b29, hw⟩ := hw
  refine x_castX (n := 340) (f := (M 9)) C hR hS 6 rfl b29 (sM_a9 ..) dX6_fixed_77 (fun H locs hR hS => ?_)
  refine lv_aload_n hx hb dX6_fixed_78 rfl (lv_at hl 0 rfl) ?_
  refine x_get (ci := 5) (Cn := RX6) (T := TX6) (N := 55) (v := .ref (ad 9)) C (hR.rdX 0 rfl) rfl in_X6 9 (by decide) q1188 (fun _ h9 => h9) rfl dX6_fixed_79 ?_
  refine lv_iload hx hb dX6_fixed_82 (lv_at hl 7 rfl) ?_
  refine lv_iconst (v := 3) hx hb dX6_fixed_84 (by decide) ?_
  refine lv_iadd hx hb dX6_fixed_85 ?_
  refine lv_iload hx hb dX6_fixed_86 (lv_at hl 6 rfl) ?_
  refine lv_if_eq (tgt := 97) hx hb dX6_fixed_88 (by decide) (fun c30 => ?_) (fun c30 => ?_)
  · have hw := hw.1 c30
    refine lv_iconst (v := 0) hx hb dX6_fixed_97 (by decide) ?_
    exact kX6_fixed_b98 C hR hS (lv_sub hl [0, 1, 2, 3, 4, 5, 6, 7] rfl) hw
  · have hw := hw.2 c30
    refine lv_iload hx hb dX6_fixed_91 (lv_at hl 3 rfl) ?_
    refine lv_i2c hx hb dX6_fixed_93 rfl ?_
    refine lv_goto (tgt := 98) hx hb dX6_fixed_94 (by decide) ?_
    exact kX6_fixed_b98 C hR hS (lv_sub hl [0, 1, 2, 3, 4, 5, 6, 7] rfl) hw
def wX6_fixed_b56 (post : (Nat → Int32) → (Nat → Nat → Int32) → Prop) (p1 : Int32) (p2 : Int32) (p3 : Int32) (p4 : Int32) (p5 : Int32) (p6 : Int32) (p7 : Int32) (F : (Nat → Int32)) (M : (Nat → Nat → Int32)) (x8 : Int32) (s0 : Int32) : Prop :=
  vp_in (((20 : Int32) * p1) + 1) 340 ∧ (x8 = 0 → wX6_fixed_b77 post p1 p2 p3 p4 p5 p6 p7 F (va_up M 9 (upd (M 9) (((20 : Int32) * p1) + 1).toNatClampNeg (vp_nar .char s0))) x8 0) ∧ (¬ x8 = 0 → wX6_fixed_b77 post p1 p2 p3 p4 p5 p6 p7 F (va_up M 9 (upd (M 9) (((20 : Int32) * p1) + 1).toNatClampNeg (vp_nar .char s0))) x8 ((p4.toUInt32 % 65536).toInt32))
theorem kX6_fixed_b56 {post : (Nat → Int32) → (Nat → Nat → Int32) → Prop} {p1 : Int32} {p2 : Int32} {p3 : Int32} {p4 : Int32} {p5 : Int32} {p6 : Int32} {p7 : Int32} (C : x_C p s m args meth c cX6_fixed 10 none RX6 D N0 gp) {F : (Nat → Int32)} {M : (Nat → Nat → Int32)} {x8 : Int32} {s0 : Int32} {H : Heap} {locs : List Loc} {ls : Array Slot} (hR : x_R D s N0 (fixM ad F M ++ XF) h H) (hS : va_S (x_A N0) s.heap H locs) (hl : lv_has ls 10 [(0, .ref (ad 1000)), (1, .int p1), (4, .int p4), (5, .int p5), (6, .int p6), (7, .int p7), (8, .int x8), (9, .int ((20 : Int32) * p1))]) (hw : wX6_fixed_b56 post p1 p2 p3 p4 p5 p6 p7 F M x8 s0) : W p l e rmX6_fixed s m args below meth c H locs 0 0 (MQ below (x_Qc D N0 (x_Vv (qMv ad XF h post))) args s 0 0 (x_A N0)) (F0 m 56 ls [.int s0, .int (((20 : Int32) * p1) + 1), .ref (ad 9)]) := by
  obtain ⟨⟨hx, hb, hml, hown, hts⟩, hr, hlocks, hG, hN⟩ := id C
  unfold wX6_fixed_b56 at hw
  obtain ⟨b27, hw⟩ := hw
  refine x_castX (n := 340) (f := (M 9)) C hR hS 6 rfl b27 (sM_a9 ..) dX6_fixed_56 (fun H locs hR hS => ?_)
  refine lv_aload_n hx hb dX6_fixed_57 rfl (lv_at hl 0 rfl) ?_
  refine x_get (ci := 5) (Cn := RX6) (T := TX6) (N := 55) (v := .ref (ad 9)) C (hR.rdX 0 rfl) rfl in_X6 9 (by decide) q1188 (fun _ h9 => h9) rfl dX6_fixed_58 ?_
  refine lv_iload hx hb dX6_fixed_61 (lv_at hl 7 rfl) ?_
  refine lv_iconst (v := 2) hx hb dX6_fixed_63 (by decide) ?_
  refine lv_iadd hx hb dX6_fixed_64 ?_
  refine lv_iload hx hb dX6_fixed_65 (lv_at hl 6 rfl) ?_
  refine lv_if_eq (tgt := 76) hx hb dX6_fixed_67 (by decide) (fun c28 => ?_) (fun c28 => ?_)
  · have hw := hw.1 c28
    refine lv_iconst (v := 0) hx hb dX6_fixed_76 (by decide) ?_
    exact kX6_fixed_b77 C hR hS (lv_sub hl [0, 1, 2, 3, 4, 5, 6, 7] rfl) hw
  · have hw := hw.2 c28
    refine lv_iload hx hb dX6_fixed_70 (lv_at hl 2 rfl) ?_
    refine lv_i2c hx hb dX6_fixed_72 rfl ?_
    refine lv_goto (tgt := 77) hx hb dX6_fixed_73 (by decide) ?_
    exact kX6_fixed_b77 C hR hS (lv_sub hl [0, 1, 2, 3, 4, 5, 6, 7] rfl) hw
def wX6_fixed_b35 (post : (Nat → Int32) → (Nat → Nat → Int32) → Prop) (p1 : Int32) (p2 : Int32) (p3 : Int32) (p4 : Int32) (p5 : Int32) (p6 : Int32) (p7 : Int32) (F : (Nat → Int32)) (M : (Nat → Nat → Int32)) (x8 : Int32) (s0 : Int32) : Prop :=
  vp_in ((20 : Int32) * p1) 340 ∧ (x8 = 0 → wX6_fixed_b56 post p1 p2 p3 p4 p5 p6 p7 F (va_up M 9 (upd (M 9) ((20 : Int32) * p1).toNatClampNeg (vp_nar .char s0))) x8 ((p2.toUInt32 % 65536).toInt32)) ∧ (¬ x8 = 0 → wX6_fixed_b56 post p1 p2 p3 p4 p5 p6 p7 F (va_up M 9 (upd (M 9) ((20 : Int32) * p1).toNatClampNeg (vp_nar .char s0))) x8 ((p3.toUInt32 % 65536).toInt32))
theorem kX6_fixed_b35 {post : (Nat → Int32) → (Nat → Nat → Int32) → Prop} {p1 : Int32} {p2 : Int32} {p3 : Int32} {p4 : Int32} {p5 : Int32} {p6 : Int32} {p7 : Int32} (C : x_C p s m args meth c cX6_fixed 10 none RX6 D N0 gp) {F : (Nat → Int32)} {M : (Nat → Nat → Int32)} {x8 : Int32} {s0 : Int32} {H : Heap} {locs : List Loc} {ls : Array Slot} (hR : x_R D s N0 (fixM ad F M ++ XF) h H) (hS : va_S (x_A N0) s.heap H locs) (hl : lv_has ls 10 [(0, .ref (ad 1000)), (1, .int p1), (2, .int p2), (3, .int p3), (4, .int p4), (5, .int p5), (6, .int p6), (7, .int p7), (8, .int x8), (9, .int ((20 : Int32) * p1))]) (hw : wX6_fixed_b35 post p1 p2 p3 p4 p5 p6 p7 F M x8 s0) : W p l e rmX6_fixed s m args below meth c H locs 0 0 (MQ below (x_Qc D N0 (x_Vv (qMv ad XF h post))) args s 0 0 (x_A N0)) (F0 m 35 ls [.int s0, .int ((20 : Int32) * p1), .ref (ad 9)]) := by
  obtain ⟨⟨hx, hb, hml, hown, hts⟩, hr, hlocks, hG, hN⟩ := id C
  unfold wX6_fixed_b35 at hw
  obtain ⟨b25, hw⟩ := hw
  refine x_castX (n := 340) (f := (M 9)) C hR hS 6 rfl b25 (sM_a9 ..) dX6_fixed_35 (fun H locs hR hS => ?_)
  refine lv_aload_n hx hb dX6_fixed_36 rfl (lv_at hl 0 rfl) ?_
  refine x_get (ci := 5) (Cn := RX6) (T := TX6) (N := 55) (v := .ref (ad 9)) C (hR.rdX 0 rfl) rfl in_X6 9 (by decide) q1188 (fun _ h9 => h9) rfl dX6_fixed_37 ?_
  refine lv_iload hx hb dX6_fixed_40 (lv_at hl 9 rfl) ?_
  refine lv_iconst (v := 1) hx hb dX6_fixed_42 (by decide) ?_
  refine lv_iadd hx hb dX6_fixed_43 ?_
  refine lv_iload hx hb dX6_fixed_44 (lv_at hl 8 rfl) ?_
  refine lv_if_eq (tgt := 54) hx hb dX6_fixed_46 (by decide) (fun c26 => ?_) (fun c26 => ?_)
  · have hw := hw.1 c26
    refine lv_iload_n hx hb dX6_fixed_54 rfl (lv_at hl 2 rfl) ?_
    refine lv_i2c hx hb dX6_fixed_55 rfl ?_
    exact kX6_fixed_b56 C hR hS (lv_sub hl [0, 1, 4, 5, 6, 7, 8, 9] rfl) hw
  · have hw := hw.2 c26
    refine lv_iload_n hx hb dX6_fixed_49 rfl (lv_at hl 3 rfl) ?_
    refine lv_i2c hx hb dX6_fixed_50 rfl ?_
    refine lv_goto (tgt := 56) hx hb dX6_fixed_51 (by decide) ?_
    exact kX6_fixed_b56 C hR hS (lv_sub hl [0, 1, 4, 5, 6, 7, 8, 9] rfl) hw
def wX6_fixed_b9 (post : (Nat → Int32) → (Nat → Nat → Int32) → Prop) (p1 : Int32) (p2 : Int32) (p3 : Int32) (p4 : Int32) (p5 : Int32) (p6 : Int32) (p7 : Int32) (F : (Nat → Int32)) (M : (Nat → Nat → Int32)) (s0 : Int32) : Prop :=
  (s0 = 0 → wX6_fixed_b35 post p1 p2 p3 p4 p5 p6 p7 F M s0 58) ∧ (¬ s0 = 0 → wX6_fixed_b35 post p1 p2 p3 p4 p5 p6 p7 F M s0 ((p2.toUInt32 % 65536).toInt32))
theorem kX6_fixed_b9 {post : (Nat → Int32) → (Nat → Nat → Int32) → Prop} {p1 : Int32} {p2 : Int32} {p3 : Int32} {p4 : Int32} {p5 : Int32} {p6 : Int32} {p7 : Int32} (C : x_C p s m args meth c cX6_fixed 10 none RX6 D N0 gp) {F : (Nat → Int32)} {M : (Nat → Nat → Int32)} {s0 : Int32} {H : Heap} {locs : List Loc} {ls : Array Slot} (hR : x_R D s N0 (fixM ad F M ++ XF) h H) (hS : va_S (x_A N0) s.heap H locs) (hl : lv_has ls 10 [(0, .ref (ad 1000)), (1, .int p1), (2, .int p2), (3, .int p3), (4, .int p4), (5, .int p5), (6, .int p6), (7, .int p7)]) (hw : wX6_fixed_b9 post p1 p2 p3 p4 p5 p6 p7 F M s0) : W p l e rmX6_fixed s m args below meth c H locs 0 0 (MQ below (x_Qc D N0 (x_Vv (qMv ad XF h post))) args s 0 0 (x_A N0)) (F0 m 9 ls [.int s0]) := by
  obtain ⟨⟨hx, hb, hml, hown, hts⟩, hr, hlocks, hG, hN⟩ := id C
  unfold wX6_fixed_b9 at hw
  refine lv_istore (lv' := [(8, .int s0), (0, .ref (ad 1000)), (1, .int p1), (2, .int p2), (3, .int p3), (4, .int p4), (5, .int p5), (6, .int p6), (7, .int p7)]) hx hb dX6_fixed_9 hl (by decide) rfl (fun ls hl => ?_)
  refine lv_bipush (v := 20) hx hb dX6_fixed_11 (by decide) ?_
  refine lv_iload_n hx hb dX6_fixed_13 rfl (lv_at hl 2 rfl) ?_
  refine lv_imul hx hb dX6_fixed_14 ?_
  refine lv_istore (lv' := [(9, .int ((20 : Int32) * p1)), (8, .int s0), (0, .ref (ad 1000)), (1, .int p1), (2, .int p2), (3, .int p3), (4, .int p4), (5, .int p5), (6, .int p6), (7, .int p7)]) hx hb dX6_fixed_15 hl (by decide) rfl (fun ls hl => ?_)
  refine lv_aload_n hx hb dX6_fixed_17 rfl (lv_at hl 2 rfl) ?_
  refine x_get (ci := 5) (Cn := RX6) (T := TX6) (N := 55) (v := .ref (ad 9)) C (hR.rdX 0 rfl) rfl in_X6 9 (by decide) q1188 (fun _ h9 => h9) rfl dX6_fixed_18 ?_
  refine lv_iload hx hb dX6_fixed_21 (lv_at hl 0 rfl) ?_
  refine lv_iload hx hb dX6_fixed_23 (lv_at hl 1 rfl) ?_
  refine lv_if_eq (tgt := 33) hx hb dX6_fixed_25 (by decide) (fun c24 => ?_) (fun c24 => ?_)
  · have hw := hw.1 c24
    refine lv_bipush (v := 58) hx hb dX6_fixed_33 (by decide) ?_
    exact kX6_fixed_b35 C hR hS (lv_sub hl [2, 3, 4, 5, 6, 7, 8, 9, 1, 0] rfl) hw
  · have hw := hw.2 c24
    refine lv_iload_n hx hb dX6_fixed_28 rfl (lv_at hl 4 rfl) ?_
    refine lv_i2c hx hb dX6_fixed_29 rfl ?_
    refine lv_goto (tgt := 35) hx hb dX6_fixed_30 (by decide) ?_
    exact kX6_fixed_b35 C hR hS (lv_sub hl [2, 3, 4, 5, 6, 7, 8, 9, 1, 0] rfl) hw
end
def wX6_fixed (post : (Nat → Int32) → (Nat → Nat → Int32) → Prop) (p1 : Int32) (p2 : Int32) (p3 : Int32) (p4 : Int32) (p5 : Int32) (p6 : Int32) (p7 : Int32) (F : (Nat → Int32)) (M : (Nat → Nat → Int32)) : Prop :=
  (p3 ≤ 0 → wX6_fixed_b9 post p1 p2 p3 p4 p5 p6 p7 F M 0) ∧ (¬ p3 ≤ 0 → wX6_fixed_b9 post p1 p2 p3 p4 p5 p6 p7 F M 1)
theorem kX6_fixed (l : Launch) (D : va_G) (N0 : Nat) (gp : Nat → Nat) (ad : Nat → Nat) (XF : x_X) (h : x_H) (p1 : Int32) (p2 : Int32) (p3 : Int32) (p4 : Int32) (p5 : Int32) (p6 : Int32) (p7 : Int32) (F : (Nat → Int32)) (M : (Nat → Nat → Int32)) (post : (Nat → Int32) → (Nat → Nat → Int32) → Prop) (hw : wX6_fixed post p1 p2 p3 p4 p5 p6 p7 F M) : Met l yX6_fixed (ws_ yX6_fixed cX6_fixed 10 none) rmX6_fixed (x_Pc D N0 gp (fixM ad F M ++ XF) h [.ref (ad 1000), .int p1, .int p2, .int p3, .int p4, .int p5, .int p6, .int p7]) (x_Qc D N0 (x_Vv (qMv ad XF h post))) 0 0 (x_A N0) := by
  refine x_start (lv := [(0, .ref (ad 1000)), (1, .int p1), (2, .int p2), (3, .int p3), (4, .int p4), (5, .int p5), (6, .int p6), (7, .int p7)]) (by decide) rfl (Nat.le_of_ble_eq_true rfl) rfl ?_
  intro p e s m below meth c C hR ls hl
  have hS : va_S (x_A N0) s.heap s.heap [] := va_S.rf
  obtain ⟨⟨hx, hb, hml, hown, hts⟩, hr, hlocks, hG, hN⟩ := id C
  unfold wX6_fixed at hw
  refine lv_iload_n hx hb dX6_fixed_0 rfl (lv_at hl 3 rfl) ?_
  refine lv_if_le (tgt := 8) hx hb dX6_fixed_1 (by decide) (fun c23 => ?_) (fun c23 => ?_)
  · have hw := hw.1 c23
    refine lv_iconst (v := 0) hx hb dX6_fixed_8 (by decide) ?_
    exact kX6_fixed_b9 C hR hS (lv_sub hl [0, 1, 2, 3, 4, 5, 6, 7] rfl) hw
  · have hw := hw.2 c23
    refine lv_iconst (v := 1) hx hb dX6_fixed_4 (by decide) ?_
    refine lv_goto (tgt := 9) hx hb dX6_fixed_5 (by decide) ?_
    exact kX6_fixed_b9 C hR hS (lv_sub hl [0, 1, 2, 3, 4, 5, 6, 7] rfl) hw
/-- PageServerModel.say(I)V -/
abbrev rmX6_say : Room := { frames := 0, cells := 0, slots := 0, locals := 0 }
section
variable {p : Program} {l : Launch} {e : Env} {s : State} {m : MethodId} {args : Array Value} {below : List Frame} {meth : Method} {c : Code} {D : va_G} {N0 : Nat} {gp : Nat → Nat} {ad : Nat → Nat} {XF : x_X} {h : x_H}
end
def wX6_say (post : (Nat → Int32) → (Nat → Nat → Int32) → Prop) (p1 : Int32) (F : (Nat → Int32)) (M : (Nat → Nat → Int32)) : Prop :=
  vp_in (F 53) 1200 ∧ post (upd F 53 ((F 53) + 1)) (va_up M 54 (upd (M 54) (F 53).toNatClampNeg (p1 &&& 255)))
theorem kX6_say (l : Launch) (D : va_G) (N0 : Nat) (gp : Nat → Nat) (ad : Nat → Nat) (XF : x_X) (h : x_H) (p1 : Int32) (F : (Nat → Int32)) (M : (Nat → Nat → Int32)) (post : (Nat → Int32) → (Nat → Nat → Int32) → Prop) (hw : wX6_say post p1 F M) : Met l yX6_say (ws_ yX6_say cX6_say 2 none) rmX6_say (x_Pc D N0 gp (fixM ad F M ++ XF) h [.ref (ad 1000), .int p1]) (x_Qc D N0 (x_Vv (qMv ad XF h post))) 0 0 (x_A N0) := by
  refine x_start (lv := [(0, .ref (ad 1000)), (1, .int p1)]) (by decide) rfl (Nat.le_of_ble_eq_true rfl) rfl ?_
  intro p e s m below meth c C hR ls hl
  have hS : va_S (x_A N0) s.heap s.heap [] := va_S.rf
  obtain ⟨⟨hx, hb, hml, hown, hts⟩, hr, hlocks, hG, hN⟩ := id C
  unfold wX6_say at hw
  refine lv_aload_n hx hb dX6_say_0 rfl (lv_at hl 0 rfl) ?_
  refine x_get (ci := 5) (Cn := RX6) (T := TX6) (N := 55) (v := .ref (ad 54)) C (hR.rdX 0 rfl) rfl in_X6 54 (by decide) q1233 (fun _ h9 => h9) rfl dX6_say_1 ?_
  refine lv_aload_n hx hb dX6_say_4 rfl (lv_at hl 0 rfl) ?_
  refine x_get (ci := 5) (Cn := RX6) (T := TX6) (N := 55) (v := .int (F 53)) C (hR.rdX 0 rfl) rfl in_X6 53 (by decide) q1232 (fun _ h9 => h9) rfl dX6_say_5 ?_
  refine lv_iload_n hx hb dX6_say_8 rfl (lv_at hl 1 rfl) ?_
  refine lv_sipush (v := 255) hx hb dX6_say_9 (by decide) ?_
  refine lv_iand hx hb dX6_say_12 ?_
  obtain ⟨b2, hw⟩ := hw
  refine x_iastX (n := 1200) (f := (M 54)) C hR hS 22 rfl b2 (sM_a54 ..) dX6_say_13 (fun H locs hR hS => ?_)
  refine lv_aload_n hx hb dX6_say_14 rfl (lv_at hl 0 rfl) ?_
  refine lv_dup hx hb dX6_say_15 rfl ?_
  refine x_get (ci := 5) (Cn := RX6) (T := TX6) (N := 55) (v := .int (F 53)) C (hR.rdX 0 rfl) rfl in_X6 53 (by decide) q1232 (fun _ h9 => h9) rfl dX6_say_16 ?_
  refine lv_iconst (v := 1) hx hb dX6_say_19 (by decide) ?_
  refine lv_iadd hx hb dX6_say_20 ?_
  refine x_putX (ci := 5) (Cn := RX6) (T := TX6) (N := 55) (v := .int ((F 53) + 1)) C hR hS 0 rfl rfl in_X6 tyX6_ok nmX6 53 (by decide) q1232 (fun _ h9 => h9) rfl rfl rfl (Nat.le_of_ble_eq_true rfl) (sM_f53 ..) dX6_say_21 (fun H locs hR hS => ?_)
  exact x_endv C hR hS ⟨rfl, ⟨_, _, rfl, rfl, hw⟩⟩ (Nat.le_refl _) (Nat.le_refl _) dX6_say_24
/-- PageServerModel.head(IIII)V -/
abbrev rmX6_head : Room := { frames := 1, cells := 0, slots := 0, locals := 21 }
section
variable {p : Program} {l : Launch} {e : Env} {s : State} {m : MethodId} {args : Array Value} {below : List Frame} {meth : Method} {c : Code} {D : va_G} {N0 : Nat} {gp : Nat → Nat} {ad : Nat → Nat} {XF : x_X} {h : x_H}
end
def wX6_head (post : (Nat → Int32) → (Nat → Nat → Int32) → Prop) (p1 : Int32) (p2 : Int32) (p3 : Int32) (p4 : Int32) (F : (Nat → Int32)) (M : (Nat → Nat → Int32)) : Prop :=
  wX6_say (fun F5 M5 => wX6_say (fun F6 M6 => wX6_say (fun F7 M7 => wX6_say (fun F8 M8 => post F8 M8) p4 F7 M7) p3 F6 M6) p2 F5 M5) p1 F M
theorem kX6_head (l : Launch) (D : va_G) (N0 : Nat) (gp : Nat → Nat) (ad : Nat → Nat) (XF : x_X) (h : x_H) (p1 : Int32) (p2 : Int32) (p3 : Int32) (p4 : Int32) (F : (Nat → Int32)) (M : (Nat → Nat → Int32)) (post : (Nat → Int32) → (Nat → Nat → Int32) → Prop) (hw : wX6_head post p1 p2 p3 p4 F M) : Met l yX6_head (ws_ yX6_head cX6_head 5 none) rmX6_head (x_Pc D N0 gp (fixM ad F M ++ XF) h [.ref (ad 1000), .int p1, .int p2, .int p3, .int p4]) (x_Qc D N0 (x_Vv (qMv ad XF h post))) 0 0 (x_A N0) := by
  refine x_start (lv := [(0, .ref (ad 1000)), (1, .int p1), (2, .int p2), (3, .int p3), (4, .int p4)]) (by decide) rfl (Nat.le_of_ble_eq_true rfl) rfl ?_
  intro p e s m below meth c C hR ls hl
  have hS : va_S (x_A N0) s.heap s.heap [] := va_S.rf
  obtain ⟨⟨hx, hb, hml, hown, hts⟩, hr, hlocks, hG, hN⟩ := id C
  unfold wX6_head at hw
  refine lv_aload_n hx hb dX6_head_0 rfl (lv_at hl 0 rfl) ?_
  refine lv_iload_n hx hb dX6_head_1 rfl (lv_at hl 1 rfl) ?_
  refine x_callv0 (x_runV (n := 1) (As := [.int p1]) C hR hS (kX6_say l D N0 gp ad XF _ p1 F M _ hw) (lw_V q1175 q1177 qs41 q104 q1178) rfl rfl (by decide +kernel) ⟨Nat.le_of_ble_eq_true rfl, Nat.le_of_ble_eq_true rfl⟩ (x_recv C (hR.rdX 0 rfl) rfl) rfl hl.1 rfl (Nat.le_of_ble_eq_true rfl) dX6_head_2 ⟨Nat.le_refl _, Nat.le_refl _⟩) hS (fun X1 h1 H locs hq hR hS => ?_)
  obtain ⟨F5, M5, e1, e2, hw⟩ := hq
  rw [e1, e2] at hR
  refine lv_aload_n hx hb dX6_head_5 rfl (lv_at hl 0 rfl) ?_
  refine lv_iload_n hx hb dX6_head_6 rfl (lv_at hl 2 rfl) ?_
  refine x_callv0 (x_runV (n := 1) (As := [.int p2]) C hR hS (kX6_say l D N0 gp ad XF _ p2 F5 M5 _ hw) (lw_V q1175 q1177 qs41 q104 q1178) rfl rfl (by decide +kernel) ⟨Nat.le_of_ble_eq_true rfl, Nat.le_of_ble_eq_true rfl⟩ (x_recv C (hR.rdX 0 rfl) rfl) rfl hl.1 rfl (Nat.le_of_ble_eq_true rfl) dX6_head_7 ⟨Nat.le_refl _, Nat.le_refl _⟩) hS (fun X1 h1 H locs hq hR hS => ?_)
  obtain ⟨F6, M6, e1, e2, hw⟩ := hq
  rw [e1, e2] at hR
  refine lv_aload_n hx hb dX6_head_10 rfl (lv_at hl 0 rfl) ?_
  refine lv_iload_n hx hb dX6_head_11 rfl (lv_at hl 3 rfl) ?_
  refine x_callv0 (x_runV (n := 1) (As := [.int p3]) C hR hS (kX6_say l D N0 gp ad XF _ p3 F6 M6 _ hw) (lw_V q1175 q1177 qs41 q104 q1178) rfl rfl (by decide +kernel) ⟨Nat.le_of_ble_eq_true rfl, Nat.le_of_ble_eq_true rfl⟩ (x_recv C (hR.rdX 0 rfl) rfl) rfl hl.1 rfl (Nat.le_of_ble_eq_true rfl) dX6_head_12 ⟨Nat.le_refl _, Nat.le_refl _⟩) hS (fun X1 h1 H locs hq hR hS => ?_)
  obtain ⟨F7, M7, e1, e2, hw⟩ := hq
  rw [e1, e2] at hR
  refine lv_aload_n hx hb dX6_head_15 rfl (lv_at hl 0 rfl) ?_
  refine lv_iload hx hb dX6_head_16 (lv_at hl 4 rfl) ?_
  refine x_callv0 (x_runV (n := 1) (As := [.int p4]) C hR hS (kX6_say l D N0 gp ad XF _ p4 F7 M7 _ hw) (lw_V q1175 q1177 qs41 q104 q1178) rfl rfl (by decide +kernel) ⟨Nat.le_of_ble_eq_true rfl, Nat.le_of_ble_eq_true rfl⟩ (x_recv C (hR.rdX 0 rfl) rfl) rfl hl.1 rfl (Nat.le_of_ble_eq_true rfl) dX6_head_18 ⟨Nat.le_refl _, Nat.le_refl _⟩) hS (fun X1 h1 H locs hq hR hS => ?_)
  obtain ⟨F8, M8, e1, e2, hw⟩ := hq
  rw [e1, e2] at hR
  exact x_endv C hR hS ⟨rfl, ⟨_, _, rfl, rfl, hw⟩⟩ (Nat.le_refl _) (Nat.le_refl _) dX6_head_21
/-- PageServerModel.begin()V -/
abbrev rmX6_begin : Room := { frames := 2, cells := 0, slots := 0, locals := 45 }
section
variable {p : Program} {l : Launch} {e : Env} {s : State} {m : MethodId} {args : Array Value} {below : List Frame} {meth : Method} {c : Code} {D : va_G} {N0 : Nat} {gp : Nat → Nat} {ad : Nat → Nat} {XF : x_X} {h : x_H}
def wX6_begin_b20 (post : (Nat → Int32) → (Nat → Nat → Int32) → Prop)  (F : (Nat → Int32)) (M : (Nat → Nat → Int32)) : Prop :=
  wX6_head (fun F10 M10 => wX6_say (fun F11 M11 => wX6_say (fun F12 M12 => post F12 M12) 4 F11 M11) 3 F10 M10) 2 4 0 0 (upd (upd (upd (upd (upd (upd (upd (upd (upd (upd (upd (upd (upd (upd F 6 0) 7 24) 22 0) 23 0) 31 1) 32 (-1)) 34 0) 47 0) 48 0) 49 0) 50 100) 51 40) 52 64) 53 0) M
theorem kX6_begin_b20 {post : (Nat → Int32) → (Nat → Nat → Int32) → Prop} (C : x_C p s m args meth c cX6_begin 2 none RX6 D N0 gp) {F : (Nat → Int32)} {M : (Nat → Nat → Int32)} {H : Heap} {locs : List Loc} {ls : Array Slot} (hR : x_R D s N0 (fixM ad F M ++ XF) h H) (hS : va_S (x_A N0) s.heap H locs) (hl : lv_has ls 2 [(0, .ref (ad 1000))]) (hw : wX6_begin_b20 post F M) : W p l e rmX6_begin s m args below meth c H locs 0 0 (MQ below (x_Qc D N0 (x_Vv (qMv ad XF h post))) args s 0 0 (x_A N0)) (F0 m 20 ls []) := by
  obtain ⟨⟨hx, hb, hml, hown, hts⟩, hr, hlocks, hG, hN⟩ := id C
  unfold wX6_begin_b20 at hw
  refine lv_aload_n hx hb dX6_begin_20 rfl (lv_at hl 0 rfl) ?_
  refine lv_iconst (v := 0) hx hb dX6_begin_21 (by decide) ?_
  refine x_putX (ci := 5) (Cn := RX6) (T := TX6) (N := 55) (v := .int 0) C hR hS 0 rfl rfl in_X6 tyX6_ok nmX6 6 (by decide) q1185 (fun _ h9 => h9) rfl rfl rfl (Nat.le_of_ble_eq_true rfl) (sM_f6 ..) dX6_begin_22 (fun H locs hR hS => ?_)
  refine lv_aload_n hx hb dX6_begin_25 rfl (lv_at hl 0 rfl) ?_
  refine lv_bipush (v := 24) hx hb dX6_begin_26 (by decide) ?_
  refine x_putX (ci := 5) (Cn := RX6) (T := TX6) (N := 55) (v := .int 24) C hR hS 0 rfl rfl in_X6 tyX6_ok nmX6 7 (by decide) q1186 (fun _ h9 => h9) rfl rfl rfl (Nat.le_of_ble_eq_true rfl) (sM_f7 ..) dX6_begin_28 (fun H locs hR hS => ?_)
  refine lv_aload_n hx hb dX6_begin_31 rfl (lv_at hl 0 rfl) ?_
  refine lv_iconst (v := 0) hx hb dX6_begin_32 (by decide) ?_
  refine x_putX (ci := 5) (Cn := RX6) (T := TX6) (N := 55) (v := .int 0) C hR hS 0 rfl rfl in_X6 tyX6_ok nmX6 22 (by decide) q1201 (fun _ h9 => h9) rfl rfl rfl (Nat.le_of_ble_eq_true rfl) (sM_f22 ..) dX6_begin_33 (fun H locs hR hS => ?_)
  refine lv_aload_n hx hb dX6_begin_36 rfl (lv_at hl 0 rfl) ?_
  refine lv_iconst (v := 0) hx hb dX6_begin_37 (by decide) ?_
  refine x_putX (ci := 5) (Cn := RX6) (T := TX6) (N := 55) (v := .int 0) C hR hS 0 rfl rfl in_X6 tyX6_ok nmX6 23 (by decide) q1202 (fun _ h9 => h9) rfl rfl rfl (Nat.le_of_ble_eq_true rfl) (sM_f23 ..) dX6_begin_38 (fun H locs hR hS => ?_)
  refine lv_aload_n hx hb dX6_begin_41 rfl (lv_at hl 0 rfl) ?_
  refine lv_iconst (v := 1) hx hb dX6_begin_42 (by decide) ?_
  refine x_putX (ci := 5) (Cn := RX6) (T := TX6) (N := 55) (v := .int 1) C hR hS 0 rfl rfl in_X6 tyX6_ok nmX6 31 (by decide) q1210 (fun _ h9 => h9) rfl rfl rfl (Nat.le_of_ble_eq_true rfl) (sM_f31 ..) dX6_begin_43 (fun H locs hR hS => ?_)
  refine lv_aload_n hx hb dX6_begin_46 rfl (lv_at hl 0 rfl) ?_
  refine lv_iconst (v := -1) hx hb dX6_begin_47 (by decide) ?_
  refine x_putX (ci := 5) (Cn := RX6) (T := TX6) (N := 55) (v := .int (-1)) C hR hS 0 rfl rfl in_X6 tyX6_ok nmX6 32 (by decide) q1211 (fun _ h9 => h9) rfl rfl rfl (Nat.le_of_ble_eq_true rfl) (sM_f32 ..) dX6_begin_48 (fun H locs hR hS => ?_)
  refine lv_aload_n hx hb dX6_begin_51 rfl (lv_at hl 0 rfl) ?_
  refine lv_iconst (v := 0) hx hb dX6_begin_52 (by decide) ?_
  refine x_putX (ci := 5) (Cn := RX6) (T := TX6) (N := 55) (v := .int 0) C hR hS 0 rfl rfl in_X6 tyX6_ok nmX6 34 (by decide) q1213 (fun _ h9 => h9) rfl rfl rfl (Nat.le_of_ble_eq_true rfl) (sM_f34 ..) dX6_begin_53 (fun H locs hR hS => ?_)
  refine lv_aload_n hx hb dX6_begin_56 rfl (lv_at hl 0 rfl) ?_
  refine lv_iconst (v := 0) hx hb dX6_begin_57 (by decide) ?_
  refine x_putX (ci := 5) (Cn := RX6) (T := TX6) (N := 55) (v := .int 0) C hR hS 0 rfl rfl in_X6 tyX6_ok nmX6 47 (by decide) q1226 (fun _ h9 => h9) rfl rfl rfl (Nat.le_of_ble_eq_true rfl) (sM_f47 ..) dX6_begin_58 (fun H locs hR hS => ?_)
  refine lv_aload_n hx hb dX6_begin_61 rfl (lv_at hl 0 rfl) ?_
  refine lv_iconst (v := 0) hx hb dX6_begin_62 (by decide) ?_
  refine x_putX (ci := 5) (Cn := RX6) (T := TX6) (N := 55) (v := .int 0) C hR hS 0 rfl rfl in_X6 tyX6_ok nmX6 48 (by decide) q1227 (fun _ h9 => h9) rfl rfl rfl (Nat.le_of_ble_eq_true rfl) (sM_f48 ..) dX6_begin_63 (fun H locs hR hS => ?_)
  refine lv_aload_n hx hb dX6_begin_66 rfl (lv_at hl 0 rfl) ?_
  refine lv_iconst (v := 0) hx hb dX6_begin_67 (by decide) ?_
  refine x_putX (ci := 5) (Cn := RX6) (T := TX6) (N := 55) (v := .int 0) C hR hS 0 rfl rfl in_X6 tyX6_ok nmX6 49 (by decide) q1228 (fun _ h9 => h9) rfl rfl rfl (Nat.le_of_ble_eq_true rfl) (sM_f49 ..) dX6_begin_68 (fun H locs hR hS => ?_)
  refine lv_aload_n hx hb dX6_begin_71 rfl (lv_at hl 0 rfl) ?_
  refine lv_bipush (v := 100) hx hb dX6_begin_72 (by decide) ?_
  refine x_putX (ci := 5) (Cn := RX6) (T := TX6) (N := 55) (v := .int 100) C hR hS 0 rfl rfl in_X6 tyX6_ok nmX6 50 (by decide) q1229 (fun _ h9 => h9) rfl rfl rfl (Nat.le_of_ble_eq_true rfl) (sM_f50 ..) dX6_begin_74 (fun H locs hR hS => ?_)
  refine lv_aload_n hx hb dX6_begin_77 rfl (lv_at hl 0 rfl) ?_
  refine lv_bipush (v := 40) hx hb dX6_begin_78 (by decide) ?_
  refine x_putX (ci := 5) (Cn := RX6) (T := TX6) (N := 55) (v := .int 40) C hR hS 0 rfl rfl in_X6 tyX6_ok nmX6 51 (by decide) q1230 (fun _ h9 => h9) rfl rfl rfl (Nat.le_of_ble_eq_true rfl) (sM_f51 ..) dX6_begin_80 (fun H locs hR hS => ?_)
  refine lv_aload_n hx hb dX6_begin_83 rfl (lv_at hl 0 rfl) ?_
  refine lv_bipush (v := 64) hx hb dX6_begin_84 (by decide) ?_
  refine x_putX (ci := 5) (Cn := RX6) (T := TX6) (N := 55) (v := .int 64) C hR hS 0 rfl rfl in_X6 tyX6_ok nmX6 52 (by decide) q1231 (fun _ h9 => h9) rfl rfl rfl (Nat.le_of_ble_eq_true rfl) (sM_f52 ..) dX6_begin_86 (fun H locs hR hS => ?_)
  refine lv_aload_n hx hb dX6_begin_89 rfl (lv_at hl 0 rfl) ?_
  refine lv_iconst (v := 0) hx hb dX6_begin_90 (by decide) ?_
  refine x_putX (ci := 5) (Cn := RX6) (T := TX6) (N := 55) (v := .int 0) C hR hS 0 rfl rfl in_X6 tyX6_ok nmX6 53 (by decide) q1232 (fun _ h9 => h9) rfl rfl rfl (Nat.le_of_ble_eq_true rfl) (sM_f53 ..) dX6_begin_91 (fun H locs hR hS => ?_)
  refine lv_aload_n hx hb dX6_begin_94 rfl (lv_at hl 0 rfl) ?_
  refine lv_iconst (v := 2) hx hb dX6_begin_95 (by decide) ?_
  refine lv_iconst (v := 4) hx hb dX6_begin_96 (by decide) ?_
  refine lv_iconst (v := 0) hx hb dX6_begin_97 (by decide) ?_
  refine lv_iconst (v := 0) hx hb dX6_begin_98 (by decide) ?_
  refine x_callv0 (x_runV (n := 4) (As := [.int 2, .int 4, .int 0, .int 0]) C hR hS (kX6_head l D N0 gp ad XF _ 2 4 0 0 (upd (upd (upd (upd (upd (upd (upd (upd (upd (upd (upd (upd (upd (upd F 6 0) 7 24) 22 0) 23 0) 31 1) 32 (-1)) 34 0) 47 0) 48 0) 49 0) 50 100) 51 40) 52 64) 53 0) M _ hw) (lw_V q1171 q1173 qs40 q104 q1174) rfl rfl (by decide +kernel) ⟨Nat.le_of_ble_eq_true rfl, Nat.le_of_ble_eq_true rfl⟩ (x_recv C (hR.rdX 0 rfl) rfl) rfl hl.1 rfl (Nat.le_of_ble_eq_true rfl) dX6_begin_99 ⟨Nat.le_refl _, Nat.le_refl _⟩) hS (fun X1 h1 H locs hq hR hS => ?_)
  obtain ⟨F10, M10, e1, e2, hw⟩ := hq
  rw [e1, e2] at hR
  refine lv_aload_n hx hb dX6_begin_102 rfl (lv_at hl 0 rfl) ?_
  refine lv_iconst (v := 3) hx hb dX6_begin_103 (by decide) ?_
  refine x_callv0 (x_runV (n := 1) (As := [.int 3]) C hR hS (kX6_say l D N0 gp ad XF _ 3 F10 M10 _ hw) (lw_V q1175 q1177 qs41 q104 q1178) rfl rfl (by decide +kernel) ⟨Nat.le_of_ble_eq_true rfl, Nat.le_of_ble_eq_true rfl⟩ (x_recv C (hR.rdX 0 rfl) rfl) rfl hl.1 rfl (Nat.le_of_ble_eq_true rfl) dX6_begin_104 ⟨Nat.le_refl _, Nat.le_refl _⟩) hS (fun X1 h1 H locs hq hR hS => ?_)
  obtain ⟨F11, M11, e1, e2, hw⟩ := hq
  rw [e1, e2] at hR
  refine lv_aload_n hx hb dX6_begin_107 rfl (lv_at hl 0 rfl) ?_
  refine lv_iconst (v := 4) hx hb dX6_begin_108 (by decide) ?_
  refine x_callv0 (x_runV (n := 1) (As := [.int 4]) C hR hS (kX6_say l D N0 gp ad XF _ 4 F11 M11 _ hw) (lw_V q1175 q1177 qs41 q104 q1178) rfl rfl (by decide +kernel) ⟨Nat.le_of_ble_eq_true rfl, Nat.le_of_ble_eq_true rfl⟩ (x_recv C (hR.rdX 0 rfl) rfl) rfl hl.1 rfl (Nat.le_of_ble_eq_true rfl) dX6_begin_109 ⟨Nat.le_refl _, Nat.le_refl _⟩) hS (fun X1 h1 H locs hq hR hS => ?_)
  obtain ⟨F12, M12, e1, e2, hw⟩ := hq
  rw [e1, e2] at hR
  exact x_endv C hR hS ⟨rfl, ⟨_, _, rfl, rfl, hw⟩⟩ (Nat.le_refl _) (Nat.le_refl _) dX6_begin_112
def tX6_begin_b2 (post : (Nat → Int32) → (Nat → Nat → Int32) → Prop) (K2 : (Nat → Int32) → (Nat → Nat → Int32) → Int32 → Prop)  (F : (Nat → Int32)) (M : (Nat → Nat → Int32)) (x1 : Int32) : Prop :=
  ((4 : Int32) ≤ x1 → wX6_begin_b20 post F M) ∧ (¬ (4 : Int32) ≤ x1 → vp_in x1 4 ∧ K2 F (va_up M 12 (upd (M 12) x1.toNatClampNeg 0)) (x1 + 1))
def wX6_begin_b2 (post : (Nat → Int32) → (Nat → Nat → Int32) → Prop)  : Nat → (Nat → Int32) → (Nat → Nat → Int32) → Int32 → Prop
  | 0 => fun _ _ _ => False
  | n + 1 => fun F M x1 => tX6_begin_b2 post (wX6_begin_b2 post n)  F M x1
theorem kX6_begin_b2 {post : (Nat → Int32) → (Nat → Nat → Int32) → Prop} (C : x_C p s m args meth c cX6_begin 2 none RX6 D N0 gp) : ∀ (nn : Nat) (F : (Nat → Int32)) (M : (Nat → Nat → Int32)) (x1 : Int32) (H : Heap) (locs : List Loc) (ls : Array Slot), x_R D s N0 (fixM ad F M ++ XF) h H → va_S (x_A N0) s.heap H locs → lv_has ls 2 [(0, .ref (ad 1000)), (1, .int x1)] → wX6_begin_b2 post nn F M x1 → W p l e rmX6_begin s m args below meth c H locs 0 0 (MQ below (x_Qc D N0 (x_Vv (qMv ad XF h post))) args s 0 0 (x_A N0)) (F0 m 2 ls []) := by
  obtain ⟨⟨hx, hb, hml, hown, hts⟩, hr, hlocks, hG, hN⟩ := id C
  intro nn
  induction nn with
  | zero =>
    intro F M x1 H locs ls hR hS hl hw
    exact False.elim hw
  | succ nn ih =>
    intro F M x1 H locs ls hR hS hl hw
    have hK2 := ih
    have hw : tX6_begin_b2 post (wX6_begin_b2 post nn)  F M x1 := hw
    unfold tX6_begin_b2 at hw
    refine lv_iload_n hx hb dX6_begin_2 rfl (lv_at hl 1 rfl) ?_
    refine lv_iconst (v := 4) hx hb dX6_begin_3 (by decide) ?_
    refine lv_icmp_ge (tgt := 20) hx hb dX6_begin_4 (by decide) (fun c8 => ?_) (fun c8 => ?_)
    · have hw := hw.1 c8
      exact kX6_begin_b20 C hR hS (lv_sub hl [0] rfl) hw
    · have hw := hw.2 c8
      refine lv_aload_n hx hb dX6_begin_7 rfl (lv_at hl 0 rfl) ?_
      refine x_get (ci := 5) (Cn := RX6) (T := TX6) (N := 55) (v := .ref (ad 12)) C (hR.rdX 0 rfl) rfl in_X6 12 (by decide) q1191 (fun _ h9 => h9) rfl dX6_begin_8 ?_
      refine lv_iload_n hx hb dX6_begin_11 rfl (lv_at hl 1 rfl) ?_
      refine lv_iconst (v := 0) hx hb dX6_begin_12 (by decide) ?_
      obtain ⟨b9, hw⟩ := hw
      refine x_iastX (n := 4) (f := (M 12)) C hR hS 9 rfl b9 (sM_a12 ..) dX6_begin_13 (fun H locs hR hS => ?_)
      refine lv_iinc (v := x1 + 1) (lv' := [(1, .int (x1 + 1)), (0, .ref (ad 1000))]) hx hb dX6_begin_14 hl (k := 1) rfl (x_inc 1 1 (by decide)) (by decide) rfl (fun ls hl => ?_)
      refine lv_goto (tgt := 2) hx hb dX6_begin_17 (by decide) ?_
      exact hK2 _ _ _ _ _ _ hR hS (lv_sub hl [1, 0] rfl) hw
end
def wX6_begin (post : (Nat → Int32) → (Nat → Nat → Int32) → Prop)  (F : (Nat → Int32)) (M : (Nat → Nat → Int32)) : Prop :=
  ∃ n7 : Nat, wX6_begin_b2 post n7 F M 0
theorem kX6_begin (l : Launch) (D : va_G) (N0 : Nat) (gp : Nat → Nat) (ad : Nat → Nat) (XF : x_X) (h : x_H)  (F : (Nat → Int32)) (M : (Nat → Nat → Int32)) (post : (Nat → Int32) → (Nat → Nat → Int32) → Prop) (hw : wX6_begin post  F M) : Met l yX6_begin (ws_ yX6_begin cX6_begin 2 none) rmX6_begin (x_Pc D N0 gp (fixM ad F M ++ XF) h [.ref (ad 1000)]) (x_Qc D N0 (x_Vv (qMv ad XF h post))) 0 0 (x_A N0) := by
  refine x_start (lv := [(0, .ref (ad 1000))]) (by decide) rfl (Nat.le_of_ble_eq_true rfl) rfl ?_
  intro p e s m below meth c C hR ls hl
  have hS : va_S (x_A N0) s.heap s.heap [] := va_S.rf
  obtain ⟨⟨hx, hb, hml, hown, hts⟩, hr, hlocks, hG, hN⟩ := id C
  unfold wX6_begin at hw
  refine lv_iconst (v := 0) hx hb dX6_begin_0 (by decide) ?_
  refine lv_istore_n (lv' := [(1, .int 0), (0, .ref (ad 1000))]) hx hb dX6_begin_1 rfl hl (by decide) rfl (fun ls hl => ?_)
  obtain ⟨n7, hw⟩ := hw
  exact kX6_begin_b2 C n7 _ _ _ _ _ _ hR hS (lv_sub hl [1, 0] rfl) hw
/-- PageServerModel.thrown()I -/
abbrev rmX6_thrown : Room := { frames := 0, cells := 0, slots := 0, locals := 0 }
section
variable {p : Program} {l : Launch} {e : Env} {s : State} {m : MethodId} {args : Array Value} {below : List Frame} {meth : Method} {c : Code} {D : va_G} {N0 : Nat} {gp : Nat → Nat} {ad : Nat → Nat} {XF : x_X} {h : x_H}
end
def wX6_thrown (post : Int32 → Prop) (F : (Nat → Int32)) (M : (Nat → Nat → Int32)) : Prop :=
  post (F 0) 
theorem kX6_thrown (l : Launch) (D : va_G) (N0 : Nat) (gp : Nat → Nat) (ad : Nat → Nat) (XF : x_X) (h : x_H) (F : (Nat → Int32)) (M : (Nat → Nat → Int32)) (post : Int32 → Prop) (hw : wX6_thrown post F M ) : Met l yX6_thrown (ws_ yX6_thrown cX6_thrown 1 (some .int)) rmX6_thrown (x_Pc D N0 gp (fixM ad F M ++ XF) h [.ref (ad 1000)]) (x_Qc D N0 (x_Vi (qPi (fixM ad F M ++ XF) h post))) 0 0 (x_A N0) := by
  refine x_start (lv := [(0, .ref (ad 1000))]) (by decide) rfl (Nat.le_of_ble_eq_true rfl) rfl ?_
  intro p e s m below meth c C hR ls hl
  have hS : va_S (x_A N0) s.heap s.heap [] := va_S.rf
  obtain ⟨⟨hx, hb, hml, hown, hts⟩, hr, hlocks, hG, hN⟩ := id C
  unfold wX6_thrown at hw
  refine lv_aload_n hx hb dX6_thrown_0 rfl (lv_at hl 0 rfl) ?_
  refine x_get (ci := 5) (Cn := RX6) (T := TX6) (N := 55) (v := .int (F 0)) C (hR.rdX 0 rfl) rfl in_X6 0 (by decide) q1179 (fun _ h9 => h9) rfl dX6_thrown_1 ?_
  exact x_endi C hR hS ⟨_, rfl, ⟨rfl, rfl, hw⟩⟩ (Nat.le_refl _) (Nat.le_refl _) dX6_thrown_4
/-- PageServerModel.byteOf(II)I -/
abbrev rmX6_byteOf : Room := { frames := 0, cells := 0, slots := 0, locals := 0 }
section
variable {p : Program} {l : Launch} {e : Env} {s : State} {m : MethodId} {args : Array Value} {below : List Frame} {meth : Method} {c : Code} {D : va_G} {N0 : Nat} {gp : Nat → Nat} {X : x_X} {h : x_H}
end
def wX6_byteOf (post : Int32 → Prop) (p0 : Int32) (p1 : Int32) : Prop :=
  post ((p0 >>> (((8 : Int32) * p1) &&& 31)) &&& 255) 
theorem kX6_byteOf (l : Launch) (D : va_G) (N0 : Nat) (gp : Nat → Nat) (X : x_X) (h : x_H) (p0 : Int32) (p1 : Int32) (post : Int32 → Prop) (hw : wX6_byteOf post p0 p1 ) : Met l yX6_byteOf (ws_ yX6_byteOf cX6_byteOf 2 (some .int)) rmX6_byteOf (x_Pc D N0 gp X h [.int p0, .int p1]) (x_Qc D N0 (x_Vi (qPi X h post))) 0 0 (x_A N0) := by
  refine x_start (lv := [(0, .int p0), (1, .int p1)]) (by decide) rfl (Nat.le_of_ble_eq_true rfl) rfl ?_
  intro p e s m below meth c C hR ls hl
  have hS : va_S (x_A N0) s.heap s.heap [] := va_S.rf
  obtain ⟨⟨hx, hb, hml, hown, hts⟩, hr, hlocks, hG, hN⟩ := id C
  unfold wX6_byteOf at hw
  refine lv_iload_n hx hb dX6_byteOf_0 rfl (lv_at hl 0 rfl) ?_
  refine lv_bipush (v := 8) hx hb dX6_byteOf_1 (by decide) ?_
  refine lv_iload_n hx hb dX6_byteOf_3 rfl (lv_at hl 1 rfl) ?_
  refine lv_imul hx hb dX6_byteOf_4 ?_
  refine lv_ishr hx hb dX6_byteOf_5 ?_
  refine lv_sipush (v := 255) hx hb dX6_byteOf_6 (by decide) ?_
  refine lv_iand hx hb dX6_byteOf_9 ?_
  exact x_endi C hR hS ⟨_, rfl, ⟨rfl, rfl, hw⟩⟩ (Nat.le_refl _) (Nat.le_refl _) dX6_byteOf_10
/-- PageServerModel.isLetter(I)Z -/
abbrev rmX6_isLetter : Room := { frames := 0, cells := 0, slots := 0, locals := 0 }
section
variable {p : Program} {l : Launch} {e : Env} {s : State} {m : MethodId} {args : Array Value} {below : List Frame} {meth : Method} {c : Code} {D : va_G} {N0 : Nat} {gp : Nat → Nat} {X : x_X} {h : x_H}
def wX6_isLetter_b17 (post : Int32 → Prop) (p0 : Int32) (s0 : Int32) : Prop :=
  narrow .boolean (.int s0) = .int s0 ∧ post s0 
theorem kX6_isLetter_b17 {post : Int32 → Prop} {p0 : Int32} (C : x_C p s m args meth c cX6_isLetter 1 (some .boolean) RX6 D N0 gp) {s0 : Int32} {H : Heap} {locs : List Loc} {ls : Array Slot} (hR : x_R D s N0 X h H) (hS : va_S (x_A N0) s.heap H locs) (hl : lv_has ls 1 []) (hw : wX6_isLetter_b17 post p0 s0) : W p l e rmX6_isLetter s m args below meth c H locs 0 0 (MQ below (x_Qc D N0 (x_Vi (qPi X h post))) args s 0 0 (x_A N0)) (F0 m 17 ls [.int s0]) := by
  obtain ⟨⟨hx, hb, hml, hown, hts⟩, hr, hlocks, hG, hN⟩ := id C
  unfold wX6_isLetter_b17 at hw
  obtain ⟨hz, hw⟩ := hw
  exact x_endz C hR hS hz ⟨_, rfl, ⟨rfl, rfl, hw⟩⟩ (Nat.le_refl _) (Nat.le_refl _) dX6_isLetter_17
def wX6_isLetter_b16 (post : Int32 → Prop) (p0 : Int32) : Prop :=
  wX6_isLetter_b17 post p0 0
theorem kX6_isLetter_b16 {post : Int32 → Prop} {p0 : Int32} (C : x_C p s m args meth c cX6_isLetter 1 (some .boolean) RX6 D N0 gp) {H : Heap} {locs : List Loc} {ls : Array Slot} (hR : x_R D s N0 X h H) (hS : va_S (x_A N0) s.heap H locs) (hl : lv_has ls 1 []) (hw : wX6_isLetter_b16 post p0 ) : W p l e rmX6_isLetter s m args below meth c H locs 0 0 (MQ below (x_Qc D N0 (x_Vi (qPi X h post))) args s 0 0 (x_A N0)) (F0 m 16 ls []) := by
  obtain ⟨⟨hx, hb, hml, hown, hts⟩, hr, hlocks, hG, hN⟩ := id C
  unfold wX6_isLetter_b16 at hw
  refine lv_iconst (v := 0) hx hb dX6_isLetter_16 (by decide) ?_
  exact kX6_isLetter_b17 C hR hS (lv_sub hl [] rfl) hw
end
def wX6_isLetter (post : Int32 → Prop) (p0 : Int32) : Prop :=
  (p0 < 97 → wX6_isLetter_b16 post p0 ) ∧ (¬ p0 < 97 → ((122 : Int32) < p0 → wX6_isLetter_b16 post p0 ) ∧ (¬ (122 : Int32) < p0 → wX6_isLetter_b17 post p0 1))
theorem kX6_isLetter (l : Launch) (D : va_G) (N0 : Nat) (gp : Nat → Nat) (X : x_X) (h : x_H) (p0 : Int32) (post : Int32 → Prop) (hw : wX6_isLetter post p0 ) : Met l yX6_isLetter (ws_ yX6_isLetter cX6_isLetter 1 (some .boolean)) rmX6_isLetter (x_Pc D N0 gp X h [.int p0]) (x_Qc D N0 (x_Vi (qPi X h post))) 0 0 (x_A N0) := by
  refine x_start (lv := [(0, .int p0)]) (by decide) rfl (Nat.le_of_ble_eq_true rfl) rfl ?_
  intro p e s m below meth c C hR ls hl
  have hS : va_S (x_A N0) s.heap s.heap [] := va_S.rf
  obtain ⟨⟨hx, hb, hml, hown, hts⟩, hr, hlocks, hG, hN⟩ := id C
  unfold wX6_isLetter at hw
  refine lv_iload_n hx hb dX6_isLetter_0 rfl (lv_at hl 0 rfl) ?_
  refine lv_bipush (v := 97) hx hb dX6_isLetter_1 (by decide) ?_
  refine lv_icmp_lt (tgt := 16) hx hb dX6_isLetter_3 (by decide) (fun c3 => ?_) (fun c3 => ?_)
  · have hw := hw.1 c3
    exact kX6_isLetter_b16 C hR hS (lv_sub hl [] rfl) hw
  · have hw := hw.2 c3
    refine lv_iload_n hx hb dX6_isLetter_6 rfl (lv_at hl 0 rfl) ?_
    refine lv_bipush (v := 122) hx hb dX6_isLetter_7 (by decide) ?_
    refine lv_icmp_gt (tgt := 16) hx hb dX6_isLetter_9 (by decide) (fun c4 => ?_) (fun c4 => ?_)
    · have hw := hw.1 c4
      exact kX6_isLetter_b16 C hR hS (lv_sub hl [] rfl) hw
    · have hw := hw.2 c4
      refine lv_iconst (v := 1) hx hb dX6_isLetter_12 (by decide) ?_
      refine lv_goto (tgt := 17) hx hb dX6_isLetter_13 (by decide) ?_
      exact kX6_isLetter_b17 C hR hS (lv_sub hl [] rfl) hw
/-- PageServerModel.isText(I)Z -/
abbrev rmX6_isText : Room := { frames := 1, cells := 0, slots := 0, locals := 21 }
section
variable {p : Program} {l : Launch} {e : Env} {s : State} {m : MethodId} {args : Array Value} {below : List Frame} {meth : Method} {c : Code} {D : va_G} {N0 : Nat} {gp : Nat → Nat} {X : x_X} {h : x_H}
def wX6_isText_b50 (post : Int32 → Prop) (K4 : Int32 → Int32 → Prop) (p0 : Int32) (x2 : Int32) (s0 : Int32) : Prop :=
  K4 s0 (x2 + 1)
theorem kX6_isText_b50 {post : Int32 → Prop} {K4 : Int32 → Int32 → Prop} {p0 : Int32} (C : x_C p s m args meth c cX6_isText 4 (some .boolean) RX6 D N0 gp) (hK4 : ∀ (x1 : Int32) (x2 : Int32) (H : Heap) (locs : List Loc) (ls : Array Slot), x_R D s N0 X h H → va_S (x_A N0) s.heap H locs → lv_has ls 4 [(0, .int p0), (1, .int x1), (2, .int x2)] → K4 x1 x2 → W p l e rmX6_isText s m args below meth c H locs 0 0 (MQ below (x_Qc D N0 (x_Vi (qPi X h post))) args s 0 0 (x_A N0)) (F0 m 4 ls [])) {x2 : Int32} {s0 : Int32} {H : Heap} {locs : List Loc} {ls : Array Slot} (hR : x_R D s N0 X h H) (hS : va_S (x_A N0) s.heap H locs) (hl : lv_has ls 4 [(0, .int p0), (2, .int x2)]) (hw : wX6_isText_b50 post K4 p0 x2 s0) : W p l e rmX6_isText s m args below meth c H locs 0 0 (MQ below (x_Qc D N0 (x_Vi (qPi X h post))) args s 0 0 (x_A N0)) (F0 m 50 ls [.int s0]) := by
  obtain ⟨⟨hx, hb, hml, hown, hts⟩, hr, hlocks, hG, hN⟩ := id C
  unfold wX6_isText_b50 at hw
  refine lv_istore_n (lv' := [(1, .int s0), (0, .int p0), (2, .int x2)]) hx hb dX6_isText_50 rfl hl (by decide) rfl (fun ls hl => ?_)
  refine lv_iinc (v := x2 + 1) (lv' := [(2, .int (x2 + 1)), (1, .int s0), (0, .int p0)]) hx hb dX6_isText_51 hl (k := 2) rfl (x_inc 1 1 (by decide)) (by decide) rfl (fun ls hl => ?_)
  refine lv_goto (tgt := 4) hx hb dX6_isText_54 (by decide) ?_
  exact hK4 _ _ _ _ _ hR hS (lv_sub hl [2, 1, 0] rfl) hw
def wX6_isText_b45 (post : Int32 → Prop) (K4 : Int32 → Int32 → Prop) (p0 : Int32) (x2 : Int32) : Prop :=
  wX6_isText_b50 post K4 p0 x2 1
theorem kX6_isText_b45 {post : Int32 → Prop} {K4 : Int32 → Int32 → Prop} {p0 : Int32} (C : x_C p s m args meth c cX6_isText 4 (some .boolean) RX6 D N0 gp) (hK4 : ∀ (x1 : Int32) (x2 : Int32) (H : Heap) (locs : List Loc) (ls : Array Slot), x_R D s N0 X h H → va_S (x_A N0) s.heap H locs → lv_has ls 4 [(0, .int p0), (1, .int x1), (2, .int x2)] → K4 x1 x2 → W p l e rmX6_isText s m args below meth c H locs 0 0 (MQ below (x_Qc D N0 (x_Vi (qPi X h post))) args s 0 0 (x_A N0)) (F0 m 4 ls [])) {x2 : Int32} {H : Heap} {locs : List Loc} {ls : Array Slot} (hR : x_R D s N0 X h H) (hS : va_S (x_A N0) s.heap H locs) (hl : lv_has ls 4 [(0, .int p0), (2, .int x2)]) (hw : wX6_isText_b45 post K4 p0 x2) : W p l e rmX6_isText s m args below meth c H locs 0 0 (MQ below (x_Qc D N0 (x_Vi (qPi X h post))) args s 0 0 (x_A N0)) (F0 m 45 ls []) := by
  obtain ⟨⟨hx, hb, hml, hown, hts⟩, hr, hlocks, hG, hN⟩ := id C
  unfold wX6_isText_b45 at hw
  refine lv_iconst (v := 1) hx hb dX6_isText_45 (by decide) ?_
  refine lv_goto (tgt := 50) hx hb dX6_isText_46 (by decide) ?_
  exact kX6_isText_b50 C hK4 hR hS (lv_sub hl [0, 1] rfl) hw
def wX6_isText_b49 (post : Int32 → Prop) (K4 : Int32 → Int32 → Prop) (p0 : Int32) (x2 : Int32) : Prop :=
  wX6_isText_b50 post K4 p0 x2 0
theorem kX6_isText_b49 {post : Int32 → Prop} {K4 : Int32 → Int32 → Prop} {p0 : Int32} (C : x_C p s m args meth c cX6_isText 4 (some .boolean) RX6 D N0 gp) (hK4 : ∀ (x1 : Int32) (x2 : Int32) (H : Heap) (locs : List Loc) (ls : Array Slot), x_R D s N0 X h H → va_S (x_A N0) s.heap H locs → lv_has ls 4 [(0, .int p0), (1, .int x1), (2, .int x2)] → K4 x1 x2 → W p l e rmX6_isText s m args below meth c H locs 0 0 (MQ below (x_Qc D N0 (x_Vi (qPi X h post))) args s 0 0 (x_A N0)) (F0 m 4 ls [])) {x2 : Int32} {H : Heap} {locs : List Loc} {ls : Array Slot} (hR : x_R D s N0 X h H) (hS : va_S (x_A N0) s.heap H locs) (hl : lv_has ls 4 [(0, .int p0), (2, .int x2)]) (hw : wX6_isText_b49 post K4 p0 x2) : W p l e rmX6_isText s m args below meth c H locs 0 0 (MQ below (x_Qc D N0 (x_Vi (qPi X h post))) args s 0 0 (x_A N0)) (F0 m 49 ls []) := by
  obtain ⟨⟨hx, hb, hml, hown, hts⟩, hr, hlocks, hG, hN⟩ := id C
  unfold wX6_isText_b49 at hw
  refine lv_iconst (v := 0) hx hb dX6_isText_49 (by decide) ?_
  exact kX6_isText_b50 C hK4 hR hS (lv_sub hl [0, 1] rfl) hw
def wX6_isText_b57 (post : Int32 → Prop) (p0 : Int32) (x1 : Int32) : Prop :=
  narrow .boolean (.int x1) = .int x1 ∧ post x1 
theorem kX6_isText_b57 {post : Int32 → Prop} {p0 : Int32} (C : x_C p s m args meth c cX6_isText 4 (some .boolean) RX6 D N0 gp) {x1 : Int32} {H : Heap} {locs : List Loc} {ls : Array Slot} (hR : x_R D s N0 X h H) (hS : va_S (x_A N0) s.heap H locs) (hl : lv_has ls 4 [(1, .int x1)]) (hw : wX6_isText_b57 post p0 x1) : W p l e rmX6_isText s m args below meth c H locs 0 0 (MQ below (x_Qc D N0 (x_Vi (qPi X h post))) args s 0 0 (x_A N0)) (F0 m 57 ls []) := by
  obtain ⟨⟨hx, hb, hml, hown, hts⟩, hr, hlocks, hG, hN⟩ := id C
  unfold wX6_isText_b57 at hw
  refine lv_iload_n hx hb dX6_isText_57 rfl (lv_at hl 0 rfl) ?_
  obtain ⟨hz, hw⟩ := hw
  exact x_endz C hR hS hz ⟨_, rfl, ⟨rfl, rfl, hw⟩⟩ (Nat.le_refl _) (Nat.le_refl _) dX6_isText_58
def tX6_isText_b4 (post : Int32 → Prop) (K4 : Int32 → Int32 → Prop) (p0 : Int32) (x1 : Int32) (x2 : Int32) : Prop :=
  ((4 : Int32) ≤ x2 → wX6_isText_b57 post p0 x1) ∧ (¬ (4 : Int32) ≤ x2 → wX6_byteOf (fun r13 => (x1 = 0 → wX6_isText_b49 post K4 p0 x2) ∧ (¬ x1 = 0 → wX6_isLetter (fun r15 => (r15 = 0 → (r13 = 0 → (x2 = 3 → wX6_isText_b45 post K4 p0 x2) ∧ (¬ x2 = 3 → wX6_byteOf (fun r19 => (r19 = 0 → wX6_isText_b45 post K4 p0 x2) ∧ (¬ r19 = 0 → wX6_isText_b49 post K4 p0 x2)) p0 (x2 + 1))) ∧ (¬ r13 = 0 → wX6_isText_b49 post K4 p0 x2)) ∧ (¬ r15 = 0 → wX6_isText_b45 post K4 p0 x2)) r13)) p0 x2)
def wX6_isText_b4 (post : Int32 → Prop) (p0 : Int32) : Nat → Int32 → Int32 → Prop
  | 0 => fun _ _ => False
  | n + 1 => fun x1 x2 => tX6_isText_b4 post (wX6_isText_b4 post p0 n) p0 x1 x2
theorem kX6_isText_b4 {post : Int32 → Prop} {p0 : Int32} (C : x_C p s m args meth c cX6_isText 4 (some .boolean) RX6 D N0 gp) : ∀ (nn : Nat) (x1 : Int32) (x2 : Int32) (H : Heap) (locs : List Loc) (ls : Array Slot), x_R D s N0 X h H → va_S (x_A N0) s.heap H locs → lv_has ls 4 [(0, .int p0), (1, .int x1), (2, .int x2)] → wX6_isText_b4 post p0 nn x1 x2 → W p l e rmX6_isText s m args below meth c H locs 0 0 (MQ below (x_Qc D N0 (x_Vi (qPi X h post))) args s 0 0 (x_A N0)) (F0 m 4 ls []) := by
  obtain ⟨⟨hx, hb, hml, hown, hts⟩, hr, hlocks, hG, hN⟩ := id C
  intro nn
  induction nn with
  | zero =>
    intro x1 x2 H locs ls hR hS hl hw
    exact False.elim hw
  | succ nn ih =>
    intro x1 x2 H locs ls hR hS hl hw
    have hK4 := ih
    have hw : tX6_isText_b4 post (wX6_isText_b4 post p0 nn) p0 x1 x2 := hw
    unfold tX6_isText_b4 at hw
    refine lv_iload_n hx hb dX6_isText_4 rfl (lv_at hl 2 rfl) ?_
    refine lv_iconst (v := 4) hx hb dX6_isText_5 (by decide) ?_
    refine lv_icmp_ge (tgt := 57) hx hb dX6_isText_6 (by decide) (fun c12 => ?_) (fun c12 => ?_)
    · have hw := hw.1 c12
      exact kX6_isText_b57 C hR hS (lv_sub hl [1] rfl) hw
    · have hw := hw.2 c12
      refine lv_iload_n hx hb dX6_isText_9 rfl (lv_at hl 0 rfl) ?_
      refine lv_iload_n hx hb dX6_isText_10 rfl (lv_at hl 2 rfl) ?_
      refine x_calli0 (x_runS (n := 2) (As := [.int p0, .int x2]) C hR hS (kX6_byteOf l D N0 gp _ _ p0 x2 _ hw) (lw_S q1359 q1360 q104 q1361) rfl rfl (by decide +kernel) ⟨Nat.le_of_ble_eq_true rfl, Nat.le_of_ble_eq_true rfl⟩ rfl hl.1 rfl (Nat.le_of_ble_eq_true rfl) dX6_isText_11 ⟨Nat.le_refl _, Nat.le_refl _⟩) hS (fun r13 X1 h1 H locs hq hR hS => ?_)
      obtain ⟨e1, e2, hw⟩ := hq
      rw [e1, e2] at hR
      refine lv_istore_n (lv' := [(3, .int r13), (0, .int p0), (1, .int x1), (2, .int x2)]) hx hb dX6_isText_14 rfl hl (by decide) rfl (fun ls hl => ?_)
      refine lv_iload_n hx hb dX6_isText_15 rfl (lv_at hl 2 rfl) ?_
      refine lv_if_eq (tgt := 49) hx hb dX6_isText_16 (by decide) (fun c14 => ?_) (fun c14 => ?_)
      · have hw := hw.1 c14
        exact kX6_isText_b49 C hK4 hR hS (lv_sub hl [1, 3] rfl) hw
      · have hw := hw.2 c14
        refine lv_iload_n hx hb dX6_isText_19 rfl (lv_at hl 0 rfl) ?_
        refine x_calli0 (x_runS (n := 1) (As := [.int r13]) C hR hS (kX6_isLetter l D N0 gp _ _ r13 _ hw) (lw_S q1362 q1363 q104 q1364) rfl rfl (by decide +kernel) ⟨Nat.le_of_ble_eq_true rfl, Nat.le_of_ble_eq_true rfl⟩ rfl hl.1 rfl (Nat.le_of_ble_eq_true rfl) dX6_isText_20 ⟨Nat.le_refl _, Nat.le_refl _⟩) hS (fun r15 X1 h1 H locs hq hR hS => ?_)
        obtain ⟨e1, e2, hw⟩ := hq
        rw [e1, e2] at hR
        refine lv_if_ne (tgt := 45) hx hb dX6_isText_23 (by decide) (fun c16 => ?_) (fun c16 => ?_)
        · have hw := hw.2 c16
          exact kX6_isText_b45 C hK4 hR hS (lv_sub hl [1, 3] rfl) hw
        · have hw := hw.1 c16
          refine lv_iload_n hx hb dX6_isText_26 rfl (lv_at hl 0 rfl) ?_
          refine lv_if_ne (tgt := 49) hx hb dX6_isText_27 (by decide) (fun c17 => ?_) (fun c17 => ?_)
          · have hw := hw.2 c17
            exact kX6_isText_b49 C hK4 hR hS (lv_sub hl [1, 3] rfl) hw
          · have hw := hw.1 c17
            refine lv_iload_n hx hb dX6_isText_30 rfl (lv_at hl 3 rfl) ?_
            refine lv_iconst (v := 3) hx hb dX6_isText_31 (by decide) ?_
            refine lv_icmp_eq (tgt := 45) hx hb dX6_isText_32 (by decide) (fun c18 => ?_) (fun c18 => ?_)
            · have hw := hw.1 c18
              exact kX6_isText_b45 C hK4 hR hS (lv_sub hl [1, 3] rfl) hw
            · have hw := hw.2 c18
              refine lv_iload_n hx hb dX6_isText_35 rfl (lv_at hl 1 rfl) ?_
              refine lv_iload_n hx hb dX6_isText_36 rfl (lv_at hl 3 rfl) ?_
              refine lv_iconst (v := 1) hx hb dX6_isText_37 (by decide) ?_
              refine lv_iadd hx hb dX6_isText_38 ?_
              refine x_calli0 (x_runS (n := 2) (As := [.int p0, .int (x2 + 1)]) C hR hS (kX6_byteOf l D N0 gp _ _ p0 (x2 + 1) _ hw) (lw_S q1359 q1360 q104 q1361) rfl rfl (by decide +kernel) ⟨Nat.le_of_ble_eq_true rfl, Nat.le_of_ble_eq_true rfl⟩ rfl hl.1 rfl (Nat.le_of_ble_eq_true rfl) dX6_isText_39 ⟨Nat.le_refl _, Nat.le_refl _⟩) hS (fun r19 X1 h1 H locs hq hR hS => ?_)
              obtain ⟨e1, e2, hw⟩ := hq
              rw [e1, e2] at hR
              refine lv_if_ne (tgt := 49) hx hb dX6_isText_42 (by decide) (fun c20 => ?_) (fun c20 => ?_)
              · have hw := hw.2 c20
                exact kX6_isText_b49 C hK4 hR hS (lv_sub hl [1, 3] rfl) hw
              · have hw := hw.1 c20
                exact kX6_isText_b45 C hK4 hR hS (lv_sub hl [1, 3] rfl) hw
end
def wX6_isText (post : Int32 → Prop) (p0 : Int32) : Prop :=
  ∃ n11 : Nat, wX6_isText_b4 post p0 n11 1 0
theorem kX6_isText (l : Launch) (D : va_G) (N0 : Nat) (gp : Nat → Nat) (X : x_X) (h : x_H) (p0 : Int32) (post : Int32 → Prop) (hw : wX6_isText post p0 ) : Met l yX6_isText (ws_ yX6_isText cX6_isText 4 (some .boolean)) rmX6_isText (x_Pc D N0 gp X h [.int p0]) (x_Qc D N0 (x_Vi (qPi X h post))) 0 0 (x_A N0) := by
  refine x_start (lv := [(0, .int p0)]) (by decide) rfl (Nat.le_of_ble_eq_true rfl) rfl ?_
  intro p e s m below meth c C hR ls hl
  have hS : va_S (x_A N0) s.heap s.heap [] := va_S.rf
  obtain ⟨⟨hx, hb, hml, hown, hts⟩, hr, hlocks, hG, hN⟩ := id C
  unfold wX6_isText at hw
  refine lv_iconst (v := 1) hx hb dX6_isText_0 (by decide) ?_
  refine lv_istore_n (lv' := [(1, .int 1), (0, .int p0)]) hx hb dX6_isText_1 rfl hl (by decide) rfl (fun ls hl => ?_)
  refine lv_iconst (v := 0) hx hb dX6_isText_2 (by decide) ?_
  refine lv_istore_n (lv' := [(2, .int 0), (1, .int 1), (0, .int p0)]) hx hb dX6_isText_3 rfl hl (by decide) rfl (fun ls hl => ?_)
  obtain ⟨n11, hw⟩ := hw
  exact kX6_isText_b4 C n11 _ _ _ _ _ hR hS (lv_sub hl [2, 1, 0] rfl) hw
/-- PageServerModel.letters(I)I -/
abbrev rmX6_letters : Room := { frames := 1, cells := 0, slots := 0, locals := 21 }
section
variable {p : Program} {l : Launch} {e : Env} {s : State} {m : MethodId} {args : Array Value} {below : List Frame} {meth : Method} {c : Code} {D : va_G} {N0 : Nat} {gp : Nat → Nat} {X : x_X} {h : x_H}
def wX6_letters_b21 (post : Int32 → Prop) (p0 : Int32) (x1 : Int32) : Prop :=
  post x1 
theorem kX6_letters_b21 {post : Int32 → Prop} {p0 : Int32} (C : x_C p s m args meth c cX6_letters 2 (some .int) RX6 D N0 gp) {x1 : Int32} {H : Heap} {locs : List Loc} {ls : Array Slot} (hR : x_R D s N0 X h H) (hS : va_S (x_A N0) s.heap H locs) (hl : lv_has ls 2 [(1, .int x1)]) (hw : wX6_letters_b21 post p0 x1) : W p l e rmX6_letters s m args below meth c H locs 0 0 (MQ below (x_Qc D N0 (x_Vi (qPi X h post))) args s 0 0 (x_A N0)) (F0 m 21 ls []) := by
  obtain ⟨⟨hx, hb, hml, hown, hts⟩, hr, hlocks, hG, hN⟩ := id C
  unfold wX6_letters_b21 at hw
  refine lv_iload_n hx hb dX6_letters_21 rfl (lv_at hl 0 rfl) ?_
  exact x_endi C hR hS ⟨_, rfl, ⟨rfl, rfl, hw⟩⟩ (Nat.le_refl _) (Nat.le_refl _) dX6_letters_22
def tX6_letters_b2 (post : Int32 → Prop) (K2 : Int32 → Prop) (p0 : Int32) (x1 : Int32) : Prop :=
  ((4 : Int32) ≤ x1 → wX6_letters_b21 post p0 x1) ∧ (¬ (4 : Int32) ≤ x1 → wX6_byteOf (fun r7 => (r7 = 0 → wX6_letters_b21 post p0 x1) ∧ (¬ r7 = 0 → K2 (x1 + 1))) p0 x1)
def wX6_letters_b2 (post : Int32 → Prop) (p0 : Int32) : Nat → Int32 → Prop
  | 0 => fun _ => False
  | n + 1 => fun x1 => tX6_letters_b2 post (wX6_letters_b2 post p0 n) p0 x1
theorem kX6_letters_b2 {post : Int32 → Prop} {p0 : Int32} (C : x_C p s m args meth c cX6_letters 2 (some .int) RX6 D N0 gp) : ∀ (nn : Nat) (x1 : Int32) (H : Heap) (locs : List Loc) (ls : Array Slot), x_R D s N0 X h H → va_S (x_A N0) s.heap H locs → lv_has ls 2 [(0, .int p0), (1, .int x1)] → wX6_letters_b2 post p0 nn x1 → W p l e rmX6_letters s m args below meth c H locs 0 0 (MQ below (x_Qc D N0 (x_Vi (qPi X h post))) args s 0 0 (x_A N0)) (F0 m 2 ls []) := by
  obtain ⟨⟨hx, hb, hml, hown, hts⟩, hr, hlocks, hG, hN⟩ := id C
  intro nn
  induction nn with
  | zero =>
    intro x1 H locs ls hR hS hl hw
    exact False.elim hw
  | succ nn ih =>
    intro x1 H locs ls hR hS hl hw
    have hK2 := ih
    have hw : tX6_letters_b2 post (wX6_letters_b2 post p0 nn) p0 x1 := hw
    unfold tX6_letters_b2 at hw
    refine lv_iload_n hx hb dX6_letters_2 rfl (lv_at hl 1 rfl) ?_
    refine lv_iconst (v := 4) hx hb dX6_letters_3 (by decide) ?_
    refine lv_icmp_ge (tgt := 21) hx hb dX6_letters_4 (by decide) (fun c6 => ?_) (fun c6 => ?_)
    · have hw := hw.1 c6
      exact kX6_letters_b21 C hR hS (lv_sub hl [1] rfl) hw
    · have hw := hw.2 c6
      refine lv_iload_n hx hb dX6_letters_7 rfl (lv_at hl 0 rfl) ?_
      refine lv_iload_n hx hb dX6_letters_8 rfl (lv_at hl 1 rfl) ?_
      refine x_calli0 (x_runS (n := 2) (As := [.int p0, .int x1]) C hR hS (kX6_byteOf l D N0 gp _ _ p0 x1 _ hw) (lw_S q1359 q1360 q104 q1361) rfl rfl (by decide +kernel) ⟨Nat.le_of_ble_eq_true rfl, Nat.le_of_ble_eq_true rfl⟩ rfl hl.1 rfl (Nat.le_of_ble_eq_true rfl) dX6_letters_9 ⟨Nat.le_refl _, Nat.le_refl _⟩) hS (fun r7 X1 h1 H locs hq hR hS => ?_)
      obtain ⟨e1, e2, hw⟩ := hq
      rw [e1, e2] at hR
      refine lv_if_eq (tgt := 21) hx hb dX6_letters_12 (by decide) (fun c8 => ?_) (fun c8 => ?_)
      · have hw := hw.1 c8
        exact kX6_letters_b21 C hR hS (lv_sub hl [1] rfl) hw
      · have hw := hw.2 c8
        refine lv_iinc (v := x1 + 1) (lv' := [(1, .int (x1 + 1)), (0, .int p0)]) hx hb dX6_letters_15 hl (k := 1) rfl (x_inc 1 1 (by decide)) (by decide) rfl (fun ls hl => ?_)
        refine lv_goto (tgt := 2) hx hb dX6_letters_18 (by decide) ?_
        exact hK2 _ _ _ _ hR hS (lv_sub hl [1, 0] rfl) hw
end
def wX6_letters (post : Int32 → Prop) (p0 : Int32) : Prop :=
  ∃ n5 : Nat, wX6_letters_b2 post p0 n5 0
theorem kX6_letters (l : Launch) (D : va_G) (N0 : Nat) (gp : Nat → Nat) (X : x_X) (h : x_H) (p0 : Int32) (post : Int32 → Prop) (hw : wX6_letters post p0 ) : Met l yX6_letters (ws_ yX6_letters cX6_letters 2 (some .int)) rmX6_letters (x_Pc D N0 gp X h [.int p0]) (x_Qc D N0 (x_Vi (qPi X h post))) 0 0 (x_A N0) := by
  refine x_start (lv := [(0, .int p0)]) (by decide) rfl (Nat.le_of_ble_eq_true rfl) rfl ?_
  intro p e s m below meth c C hR ls hl
  have hS : va_S (x_A N0) s.heap s.heap [] := va_S.rf
  obtain ⟨⟨hx, hb, hml, hown, hts⟩, hr, hlocks, hG, hN⟩ := id C
  unfold wX6_letters at hw
  refine lv_iconst (v := 0) hx hb dX6_letters_0 (by decide) ?_
  refine lv_istore_n (lv' := [(1, .int 0), (0, .int p0)]) hx hb dX6_letters_1 rfl hl (by decide) rfl (fun ls hl => ?_)
  obtain ⟨n5, hw⟩ := hw
  exact kX6_letters_b2 C n5 _ _ _ _ hR hS (lv_sub hl [1, 0] rfl) hw
/-- PageServerModel.outside(III)Z -/
abbrev rmX6_outside : Room := { frames := 0, cells := 0, slots := 0, locals := 0 }
section
variable {p : Program} {l : Launch} {e : Env} {s : State} {m : MethodId} {args : Array Value} {below : List Frame} {meth : Method} {c : Code} {D : va_G} {N0 : Nat} {gp : Nat → Nat} {X : x_X} {h : x_H}
def wX6_outside_b15 (post : Int32 → Prop) (p0 : Int32) (p1 : Int32) (p2 : Int32) (s0 : Int32) : Prop :=
  narrow .boolean (.int s0) = .int s0 ∧ post s0 
theorem kX6_outside_b15 {post : Int32 → Prop} {p0 : Int32} {p1 : Int32} {p2 : Int32} (C : x_C p s m args meth c cX6_outside 3 (some .boolean) RX6 D N0 gp) {s0 : Int32} {H : Heap} {locs : List Loc} {ls : Array Slot} (hR : x_R D s N0 X h H) (hS : va_S (x_A N0) s.heap H locs) (hl : lv_has ls 3 []) (hw : wX6_outside_b15 post p0 p1 p2 s0) : W p l e rmX6_outside s m args below meth c H locs 0 0 (MQ below (x_Qc D N0 (x_Vi (qPi X h post))) args s 0 0 (x_A N0)) (F0 m 15 ls [.int s0]) := by
  obtain ⟨⟨hx, hb, hml, hown, hts⟩, hr, hlocks, hG, hN⟩ := id C
  unfold wX6_outside_b15 at hw
  obtain ⟨hz, hw⟩ := hw
  exact x_endz C hR hS hz ⟨_, rfl, ⟨rfl, rfl, hw⟩⟩ (Nat.le_refl _) (Nat.le_refl _) dX6_outside_15
def wX6_outside_b10 (post : Int32 → Prop) (p0 : Int32) (p1 : Int32) (p2 : Int32) : Prop :=
  wX6_outside_b15 post p0 p1 p2 1
theorem kX6_outside_b10 {post : Int32 → Prop} {p0 : Int32} {p1 : Int32} {p2 : Int32} (C : x_C p s m args meth c cX6_outside 3 (some .boolean) RX6 D N0 gp) {H : Heap} {locs : List Loc} {ls : Array Slot} (hR : x_R D s N0 X h H) (hS : va_S (x_A N0) s.heap H locs) (hl : lv_has ls 3 []) (hw : wX6_outside_b10 post p0 p1 p2 ) : W p l e rmX6_outside s m args below meth c H locs 0 0 (MQ below (x_Qc D N0 (x_Vi (qPi X h post))) args s 0 0 (x_A N0)) (F0 m 10 ls []) := by
  obtain ⟨⟨hx, hb, hml, hown, hts⟩, hr, hlocks, hG, hN⟩ := id C
  unfold wX6_outside_b10 at hw
  refine lv_iconst (v := 1) hx hb dX6_outside_10 (by decide) ?_
  refine lv_goto (tgt := 15) hx hb dX6_outside_11 (by decide) ?_
  exact kX6_outside_b15 C hR hS (lv_sub hl [] rfl) hw
end
def wX6_outside (post : Int32 → Prop) (p0 : Int32) (p1 : Int32) (p2 : Int32) : Prop :=
  (p0 < p1 → wX6_outside_b10 post p0 p1 p2 ) ∧ (¬ p0 < p1 → (p0 ≤ p2 → wX6_outside_b15 post p0 p1 p2 0) ∧ (¬ p0 ≤ p2 → wX6_outside_b10 post p0 p1 p2 ))
theorem kX6_outside (l : Launch) (D : va_G) (N0 : Nat) (gp : Nat → Nat) (X : x_X) (h : x_H) (p0 : Int32) (p1 : Int32) (p2 : Int32) (post : Int32 → Prop) (hw : wX6_outside post p0 p1 p2 ) : Met l yX6_outside (ws_ yX6_outside cX6_outside 3 (some .boolean)) rmX6_outside (x_Pc D N0 gp X h [.int p0, .int p1, .int p2]) (x_Qc D N0 (x_Vi (qPi X h post))) 0 0 (x_A N0) := by
  refine x_start (lv := [(0, .int p0), (1, .int p1), (2, .int p2)]) (by decide) rfl (Nat.le_of_ble_eq_true rfl) rfl ?_
  intro p e s m below meth c C hR ls hl
  have hS : va_S (x_A N0) s.heap s.heap [] := va_S.rf
  obtain ⟨⟨hx, hb, hml, hown, hts⟩, hr, hlocks, hG, hN⟩ := id C
  unfold wX6_outside at hw
  refine lv_iload_n hx hb dX6_outside_0 rfl (lv_at hl 0 rfl) ?_
  refine lv_iload_n hx hb dX6_outside_1 rfl (lv_at hl 1 rfl) ?_
  refine lv_icmp_lt (tgt := 10) hx hb dX6_outside_2 (by decide) (fun c3 => ?_) (fun c3 => ?_)
  · have hw := hw.1 c3
    exact kX6_outside_b10 C hR hS (lv_sub hl [] rfl) hw
  · have hw := hw.2 c3
    refine lv_iload_n hx hb dX6_outside_5 rfl (lv_at hl 0 rfl) ?_
    refine lv_iload_n hx hb dX6_outside_6 rfl (lv_at hl 2 rfl) ?_
    refine lv_icmp_le (tgt := 14) hx hb dX6_outside_7 (by decide) (fun c4 => ?_) (fun c4 => ?_)
    · have hw := hw.1 c4
      refine lv_iconst (v := 0) hx hb dX6_outside_14 (by decide) ?_
      exact kX6_outside_b15 C hR hS (lv_sub hl [] rfl) hw
    · have hw := hw.2 c4
      exact kX6_outside_b10 C hR hS (lv_sub hl [] rfl) hw
/-- PageServerModel.refuse(I)I -/
abbrev rmX6_refuse : Room := { frames := 0, cells := 0, slots := 0, locals := 0 }
section
variable {p : Program} {l : Launch} {e : Env} {s : State} {m : MethodId} {args : Array Value} {below : List Frame} {meth : Method} {c : Code} {D : va_G} {N0 : Nat} {gp : Nat → Nat} {ad : Nat → Nat} {XF : x_X} {h : x_H}
end
def wX6_refuse (post : Int32 → (Nat → Int32) → (Nat → Nat → Int32) → Prop) (p1 : Int32) (F : (Nat → Int32)) (M : (Nat → Nat → Int32)) : Prop :=
  post 0 (upd F 0 p1) M
theorem kX6_refuse (l : Launch) (D : va_G) (N0 : Nat) (gp : Nat → Nat) (ad : Nat → Nat) (XF : x_X) (h : x_H) (p1 : Int32) (F : (Nat → Int32)) (M : (Nat → Nat → Int32)) (post : Int32 → (Nat → Int32) → (Nat → Nat → Int32) → Prop) (hw : wX6_refuse post p1 F M) : Met l yX6_refuse (ws_ yX6_refuse cX6_refuse 2 (some .int)) rmX6_refuse (x_Pc D N0 gp (fixM ad F M ++ XF) h [.ref (ad 1000), .int p1]) (x_Qc D N0 (x_Vi (qMi ad XF h post))) 0 0 (x_A N0) := by
  refine x_start (lv := [(0, .ref (ad 1000)), (1, .int p1)]) (by decide) rfl (Nat.le_of_ble_eq_true rfl) rfl ?_
  intro p e s m below meth c C hR ls hl
  have hS : va_S (x_A N0) s.heap s.heap [] := va_S.rf
  obtain ⟨⟨hx, hb, hml, hown, hts⟩, hr, hlocks, hG, hN⟩ := id C
  unfold wX6_refuse at hw
  refine lv_aload_n hx hb dX6_refuse_0 rfl (lv_at hl 0 rfl) ?_
  refine lv_iload_n hx hb dX6_refuse_1 rfl (lv_at hl 1 rfl) ?_
  refine x_putX (ci := 5) (Cn := RX6) (T := TX6) (N := 55) (v := .int p1) C hR hS 0 rfl rfl in_X6 tyX6_ok nmX6 0 (by decide) q1179 (fun _ h9 => h9) rfl rfl rfl (Nat.le_of_ble_eq_true rfl) (sM_f0 ..) dX6_refuse_2 (fun H locs hR hS => ?_)
  refine lv_iconst (v := 0) hx hb dX6_refuse_5 (by decide) ?_
  exact x_endi C hR hS ⟨_, rfl, ⟨_, _, rfl, rfl, hw⟩⟩ (Nat.le_refl _) (Nat.le_refl _) dX6_refuse_6
/-- PageServerModel.lay(II)V -/
abbrev rmX6_lay : Room := { frames := 2, cells := 0, slots := 0, locals := 42 }
section
variable {p : Program} {l : Launch} {e : Env} {s : State} {m : MethodId} {args : Array Value} {below : List Frame} {meth : Method} {c : Code} {D : va_G} {N0 : Nat} {gp : Nat → Nat} {ad : Nat → Nat} {XF : x_X} {h : x_H}
def wX6_lay_b40 (post : (Nat → Int32) → (Nat → Nat → Int32) → Prop) (p1 : Int32) (p2 : Int32) (F : (Nat → Int32)) (M : (Nat → Nat → Int32)) : Prop :=
  post F M
theorem kX6_lay_b40 {post : (Nat → Int32) → (Nat → Nat → Int32) → Prop} {p1 : Int32} {p2 : Int32} (C : x_C p s m args meth c cX6_lay 5 none RX6 D N0 gp) {F : (Nat → Int32)} {M : (Nat → Nat → Int32)} {H : Heap} {locs : List Loc} {ls : Array Slot} (hR : x_R D s N0 (fixM ad F M ++ XF) h H) (hS : va_S (x_A N0) s.heap H locs) (hl : lv_has ls 5 []) (hw : wX6_lay_b40 post p1 p2 F M) : W p l e rmX6_lay s m args below meth c H locs 0 0 (MQ below (x_Qc D N0 (x_Vv (qMv ad XF h post))) args s 0 0 (x_A N0)) (F0 m 40 ls []) := by
  obtain ⟨⟨hx, hb, hml, hown, hts⟩, hr, hlocks, hG, hN⟩ := id C
  unfold wX6_lay_b40 at hw
  exact x_endv C hR hS ⟨rfl, ⟨_, _, rfl, rfl, hw⟩⟩ (Nat.le_refl _) (Nat.le_refl _) dX6_lay_40
def tX6_lay_b8 (post : (Nat → Int32) → (Nat → Nat → Int32) → Prop) (K8 : (Nat → Int32) → (Nat → Nat → Int32) → Int32 → Int32 → Prop) (p1 : Int32) (p2 : Int32) (F : (Nat → Int32)) (M : (Nat → Nat → Int32)) (x3 : Int32) (x4 : Int32) : Prop :=
  (x3 ≤ x4 → wX6_lay_b40 post p1 p2 F M) ∧ (¬ x3 ≤ x4 → wX6_byteOf (fun r9 => vp_in (p1 + x4) 20 ∧ K8 F (va_up M 46 (upd (M 46) (p1 + x4).toNatClampNeg (vp_nar .char ((r9.toUInt32 % 65536).toInt32)))) x3 (x4 + 1)) p2 ((x3 - 1) - x4))
def wX6_lay_b8 (post : (Nat → Int32) → (Nat → Nat → Int32) → Prop) (p1 : Int32) (p2 : Int32) : Nat → (Nat → Int32) → (Nat → Nat → Int32) → Int32 → Int32 → Prop
  | 0 => fun _ _ _ _ => False
  | n + 1 => fun F M x3 x4 => tX6_lay_b8 post (wX6_lay_b8 post p1 p2 n) p1 p2 F M x3 x4
theorem kX6_lay_b8 {post : (Nat → Int32) → (Nat → Nat → Int32) → Prop} {p1 : Int32} {p2 : Int32} (C : x_C p s m args meth c cX6_lay 5 none RX6 D N0 gp) : ∀ (nn : Nat) (F : (Nat → Int32)) (M : (Nat → Nat → Int32)) (x3 : Int32) (x4 : Int32) (H : Heap) (locs : List Loc) (ls : Array Slot), x_R D s N0 (fixM ad F M ++ XF) h H → va_S (x_A N0) s.heap H locs → lv_has ls 5 [(0, .ref (ad 1000)), (1, .int p1), (2, .int p2), (3, .int x3), (4, .int x4)] → wX6_lay_b8 post p1 p2 nn F M x3 x4 → W p l e rmX6_lay s m args below meth c H locs 0 0 (MQ below (x_Qc D N0 (x_Vv (qMv ad XF h post))) args s 0 0 (x_A N0)) (F0 m 8 ls []) := by
  obtain ⟨⟨hx, hb, hml, hown, hts⟩, hr, hlocks, hG, hN⟩ := id C
  intro nn
  induction nn with
  | zero =>
    intro F M x3 x4 H locs ls hR hS hl hw
    exact False.elim hw
  | succ nn ih =>
    intro F M x3 x4 H locs ls hR hS hl hw
    have hK8 := ih
    have hw : tX6_lay_b8 post (wX6_lay_b8 post p1 p2 nn) p1 p2 F M x3 x4 := hw
    unfold tX6_lay_b8 at hw
    refine lv_iload hx hb dX6_lay_8 (lv_at hl 4 rfl) ?_
    refine lv_iload_n hx hb dX6_lay_10 rfl (lv_at hl 3 rfl) ?_
    refine lv_icmp_ge (tgt := 40) hx hb dX6_lay_11 (by decide) (fun c8 => ?_) (fun c8 => ?_)
    · have hw := hw.1 c8
      exact kX6_lay_b40 C hR hS (lv_sub hl [] rfl) hw
    · have hw := hw.2 c8
      refine lv_aload_n hx hb dX6_lay_14 rfl (lv_at hl 0 rfl) ?_
      refine x_get (ci := 5) (Cn := RX6) (T := TX6) (N := 55) (v := .ref (ad 46)) C (hR.rdX 0 rfl) rfl in_X6 46 (by decide) q1225 (fun _ h9 => h9) rfl dX6_lay_15 ?_
      refine lv_iload_n hx hb dX6_lay_18 rfl (lv_at hl 1 rfl) ?_
      refine lv_iload hx hb dX6_lay_19 (lv_at hl 4 rfl) ?_
      refine lv_iadd hx hb dX6_lay_21 ?_
      refine lv_iload_n hx hb dX6_lay_22 rfl (lv_at hl 2 rfl) ?_
      refine lv_iload_n hx hb dX6_lay_23 rfl (lv_at hl 3 rfl) ?_
      refine lv_iconst (v := 1) hx hb dX6_lay_24 (by decide) ?_
      refine lv_isub hx hb dX6_lay_25 ?_
      refine lv_iload hx hb dX6_lay_26 (lv_at hl 4 rfl) ?_
      refine lv_isub hx hb dX6_lay_28 ?_
      refine x_calli0 (x_runS (n := 2) (As := [.int p2, .int ((x3 - 1) - x4)]) C hR hS (kX6_byteOf l D N0 gp _ _ p2 ((x3 - 1) - x4) _ hw) (lw_S q1359 q1360 q104 q1361) rfl rfl (by decide +kernel) ⟨Nat.le_of_ble_eq_true rfl, Nat.le_of_ble_eq_true rfl⟩ rfl hl.1 rfl (Nat.le_of_ble_eq_true rfl) dX6_lay_29 ⟨Nat.le_refl _, Nat.le_refl _⟩) hS (fun r9 X1 h1 H locs hq hR hS => ?_)
      obtain ⟨e1, e2, hw⟩ := hq
      rw [e1, e2] at hR
      refine lv_i2c hx hb dX6_lay_32 rfl ?_
      obtain ⟨b10, hw⟩ := hw
      refine x_castX (n := 20) (f := (M 46)) C hR hS 21 rfl b10 (sM_a46 ..) dX6_lay_33 (fun H locs hR hS => ?_)
      refine lv_iinc (v := x4 + 1) (lv' := [(4, .int (x4 + 1)), (0, .ref (ad 1000)), (1, .int p1), (2, .int p2), (3, .int x3)]) hx hb dX6_lay_34 hl (k := 4) rfl (x_inc 1 1 (by decide)) (by decide) rfl (fun ls hl => ?_)
      refine lv_goto (tgt := 8) hx hb dX6_lay_37 (by decide) ?_
      exact hK8 _ _ _ _ _ _ _ hR hS (lv_sub hl [1, 2, 3, 4, 0] rfl) hw
end
def wX6_lay (post : (Nat → Int32) → (Nat → Nat → Int32) → Prop) (p1 : Int32) (p2 : Int32) (F : (Nat → Int32)) (M : (Nat → Nat → Int32)) : Prop :=
  wX6_letters (fun r6 => ∃ n7 : Nat, wX6_lay_b8 post p1 p2 n7 F M r6 0) p2
theorem kX6_lay (l : Launch) (D : va_G) (N0 : Nat) (gp : Nat → Nat) (ad : Nat → Nat) (XF : x_X) (h : x_H) (p1 : Int32) (p2 : Int32) (F : (Nat → Int32)) (M : (Nat → Nat → Int32)) (post : (Nat → Int32) → (Nat → Nat → Int32) → Prop) (hw : wX6_lay post p1 p2 F M) : Met l yX6_lay (ws_ yX6_lay cX6_lay 5 none) rmX6_lay (x_Pc D N0 gp (fixM ad F M ++ XF) h [.ref (ad 1000), .int p1, .int p2]) (x_Qc D N0 (x_Vv (qMv ad XF h post))) 0 0 (x_A N0) := by
  refine x_start (lv := [(0, .ref (ad 1000)), (1, .int p1), (2, .int p2)]) (by decide) rfl (Nat.le_of_ble_eq_true rfl) rfl ?_
  intro p e s m below meth c C hR ls hl
  have hS : va_S (x_A N0) s.heap s.heap [] := va_S.rf
  obtain ⟨⟨hx, hb, hml, hown, hts⟩, hr, hlocks, hG, hN⟩ := id C
  unfold wX6_lay at hw
  refine lv_iload_n hx hb dX6_lay_0 rfl (lv_at hl 2 rfl) ?_
  refine x_calli0 (x_runS (n := 1) (As := [.int p2]) C hR hS (kX6_letters l D N0 gp _ _ p2 _ hw) (lw_S q1365 q1366 q104 q1367) rfl rfl (by decide +kernel) ⟨Nat.le_of_ble_eq_true rfl, Nat.le_of_ble_eq_true rfl⟩ rfl hl.1 rfl (Nat.le_of_ble_eq_true rfl) dX6_lay_1 ⟨Nat.le_refl _, Nat.le_refl _⟩) hS (fun r6 X1 h1 H locs hq hR hS => ?_)
  obtain ⟨e1, e2, hw⟩ := hq
  rw [e1, e2] at hR
  refine lv_istore_n (lv' := [(3, .int r6), (0, .ref (ad 1000)), (1, .int p1), (2, .int p2)]) hx hb dX6_lay_4 rfl hl (by decide) rfl (fun ls hl => ?_)
  refine lv_iconst (v := 0) hx hb dX6_lay_5 (by decide) ?_
  refine lv_istore (lv' := [(4, .int 0), (3, .int r6), (0, .ref (ad 1000)), (1, .int p1), (2, .int p2)]) hx hb dX6_lay_6 hl (by decide) rfl (fun ls hl => ?_)
  obtain ⟨n7, hw⟩ := hw
  exact kX6_lay_b8 C n7 _ _ _ _ _ _ _ hR hS (lv_sub hl [2, 3, 4, 1, 0] rfl) hw
/-- PageServerModel.pageOf([CII)I -/
abbrev rmX6_pageOf : Room := { frames := 0, cells := 0, slots := 0, locals := 0 }
section
variable {p : Program} {l : Launch} {e : Env} {s : State} {m : MethodId} {args : Array Value} {below : List Frame} {meth : Method} {c : Code} {D : va_G} {N0 : Nat} {gp : Nat → Nat} {ad : Nat → Nat} {XF : x_X} {h : x_H}
def wX6_pageOf_b74 (post : Int32 → Prop) (K6 : Int32 → Int32 → Prop) (K36 : Int32 → Int32 → Int32 → Int32 → Prop) (p2 : Int32) (p3 : Int32) (kr : Nat) (nr : Nat) (xr : Nat) (F : (Nat → Int32)) (M : (Nat → Nat → Int32)) (x4 : Int32) (x5 : Int32) (x7 : Int32) (s0 : Int32) : Prop :=
  K36 x4 x5 s0 (x7 + 1)
theorem kX6_pageOf_b74 {post : Int32 → Prop} {K6 : Int32 → Int32 → Prop} {K36 : Int32 → Int32 → Int32 → Int32 → Prop} {p2 : Int32} {p3 : Int32} {kr : Nat} {nr : Nat} {xr : Nat} {F : (Nat → Int32)} {M : (Nat → Nat → Int32)} (C : x_C p s m args meth c cX6_pageOf 8 (some .int) RX6 D N0 gp) (hrow : ∀ F M, (fixM ad F M ++ XF)[xr]? = some (ad kr, .inl (.char, (nr, .inl (M kr))))) (hK6 : ∀ (x4 : Int32) (x5 : Int32) (H : Heap) (locs : List Loc) (ls : Array Slot), x_R D s N0 (fixM ad F M ++ XF) h H → va_S (x_A N0) s.heap H locs → lv_has ls 8 [(0, .ref (ad 1000)), (1, .ref (ad kr)), (2, .int p2), (3, .int p3), (4, .int x4), (5, .int x5)] → K6 x4 x5 → W p l e rmX6_pageOf s m args below meth c H locs 0 0 (MQ below (x_Qc D N0 (x_Vi (qPi (fixM ad F M ++ XF) h post))) args s 0 0 (x_A N0)) (F0 m 6 ls [])) (hK36 : ∀ (x4 : Int32) (x5 : Int32) (x6 : Int32) (x7 : Int32) (H : Heap) (locs : List Loc) (ls : Array Slot), x_R D s N0 (fixM ad F M ++ XF) h H → va_S (x_A N0) s.heap H locs → lv_has ls 8 [(0, .ref (ad 1000)), (1, .ref (ad kr)), (2, .int p2), (3, .int p3), (4, .int x4), (5, .int x5), (6, .int x6), (7, .int x7)] → K36 x4 x5 x6 x7 → W p l e rmX6_pageOf s m args below meth c H locs 0 0 (MQ below (x_Qc D N0 (x_Vi (qPi (fixM ad F M ++ XF) h post))) args s 0 0 (x_A N0)) (F0 m 36 ls [])) {x4 : Int32} {x5 : Int32} {x7 : Int32} {s0 : Int32} {H : Heap} {locs : List Loc} {ls : Array Slot} (hR : x_R D s N0 (fixM ad F M ++ XF) h H) (hS : va_S (x_A N0) s.heap H locs) (hl : lv_has ls 8 [(0, .ref (ad 1000)), (1, .ref (ad kr)), (2, .int p2), (3, .int p3), (4, .int x4), (5, .int x5), (7, .int x7)]) (hw : wX6_pageOf_b74 post K6 K36 p2 p3 kr nr xr F M x4 x5 x7 s0) : W p l e rmX6_pageOf s m args below meth c H locs 0 0 (MQ below (x_Qc D N0 (x_Vi (qPi (fixM ad F M ++ XF) h post))) args s 0 0 (x_A N0)) (F0 m 74 ls [.int s0]) := by
  obtain ⟨⟨hx, hb, hml, hown, hts⟩, hr, hlocks, hG, hN⟩ := id C
  unfold wX6_pageOf_b74 at hw
  refine lv_istore (lv' := [(6, .int s0), (0, .ref (ad 1000)), (1, .ref (ad kr)), (2, .int p2), (3, .int p3), (4, .int x4), (5, .int x5), (7, .int x7)]) hx hb dX6_pageOf_74 hl (by decide) rfl (fun ls hl => ?_)
  refine lv_iinc (v := x7 + 1) (lv' := [(7, .int (x7 + 1)), (6, .int s0), (0, .ref (ad 1000)), (1, .ref (ad kr)), (2, .int p2), (3, .int p3), (4, .int x4), (5, .int x5)]) hx hb dX6_pageOf_76 hl (k := 7) rfl (x_inc 1 1 (by decide)) (by decide) rfl (fun ls hl => ?_)
  refine lv_goto (tgt := 36) hx hb dX6_pageOf_79 (by decide) ?_
  exact hK36 _ _ _ _ _ _ _ hR hS (lv_sub hl [2, 3, 4, 5, 6, 7, 1, 0] rfl) hw
def wX6_pageOf_b94 (post : Int32 → Prop) (K6 : Int32 → Int32 → Prop) (p2 : Int32) (p3 : Int32) (kr : Nat) (nr : Nat) (xr : Nat) (F : (Nat → Int32)) (M : (Nat → Nat → Int32)) (x5 : Int32) (s0 : Int32) : Prop :=
  K6 s0 (x5 + 1)
theorem kX6_pageOf_b94 {post : Int32 → Prop} {K6 : Int32 → Int32 → Prop} {p2 : Int32} {p3 : Int32} {kr : Nat} {nr : Nat} {xr : Nat} {F : (Nat → Int32)} {M : (Nat → Nat → Int32)} (C : x_C p s m args meth c cX6_pageOf 8 (some .int) RX6 D N0 gp) (hrow : ∀ F M, (fixM ad F M ++ XF)[xr]? = some (ad kr, .inl (.char, (nr, .inl (M kr))))) (hK6 : ∀ (x4 : Int32) (x5 : Int32) (H : Heap) (locs : List Loc) (ls : Array Slot), x_R D s N0 (fixM ad F M ++ XF) h H → va_S (x_A N0) s.heap H locs → lv_has ls 8 [(0, .ref (ad 1000)), (1, .ref (ad kr)), (2, .int p2), (3, .int p3), (4, .int x4), (5, .int x5)] → K6 x4 x5 → W p l e rmX6_pageOf s m args below meth c H locs 0 0 (MQ below (x_Qc D N0 (x_Vi (qPi (fixM ad F M ++ XF) h post))) args s 0 0 (x_A N0)) (F0 m 6 ls [])) {x5 : Int32} {s0 : Int32} {H : Heap} {locs : List Loc} {ls : Array Slot} (hR : x_R D s N0 (fixM ad F M ++ XF) h H) (hS : va_S (x_A N0) s.heap H locs) (hl : lv_has ls 8 [(0, .ref (ad 1000)), (1, .ref (ad kr)), (2, .int p2), (3, .int p3), (5, .int x5)]) (hw : wX6_pageOf_b94 post K6 p2 p3 kr nr xr F M x5 s0) : W p l e rmX6_pageOf s m args below meth c H locs 0 0 (MQ below (x_Qc D N0 (x_Vi (qPi (fixM ad F M ++ XF) h post))) args s 0 0 (x_A N0)) (F0 m 94 ls [.int s0]) := by
  obtain ⟨⟨hx, hb, hml, hown, hts⟩, hr, hlocks, hG, hN⟩ := id C
  unfold wX6_pageOf_b94 at hw
  refine lv_istore (lv' := [(4, .int s0), (0, .ref (ad 1000)), (1, .ref (ad kr)), (2, .int p2), (3, .int p3), (5, .int x5)]) hx hb dX6_pageOf_94 hl (by decide) rfl (fun ls hl => ?_)
  refine lv_iinc (v := x5 + 1) (lv' := [(5, .int (x5 + 1)), (4, .int s0), (0, .ref (ad 1000)), (1, .ref (ad kr)), (2, .int p2), (3, .int p3)]) hx hb dX6_pageOf_96 hl (k := 5) rfl (x_inc 1 1 (by decide)) (by decide) rfl (fun ls hl => ?_)
  refine lv_goto (tgt := 6) hx hb dX6_pageOf_99 (by decide) ?_
  exact hK6 _ _ _ _ _ hR hS (lv_sub hl [2, 3, 4, 5, 1, 0] rfl) hw
def wX6_pageOf_b82 (post : Int32 → Prop) (K6 : Int32 → Int32 → Prop) (p2 : Int32) (p3 : Int32) (kr : Nat) (nr : Nat) (xr : Nat) (F : (Nat → Int32)) (M : (Nat → Nat → Int32)) (x4 : Int32) (x5 : Int32) (x6 : Int32) : Prop :=
  (x6 = 0 → wX6_pageOf_b94 post K6 p2 p3 kr nr xr F M x5 x4) ∧ (¬ x6 = 0 → wX6_pageOf_b94 post K6 p2 p3 kr nr xr F M x5 x5)
theorem kX6_pageOf_b82 {post : Int32 → Prop} {K6 : Int32 → Int32 → Prop} {p2 : Int32} {p3 : Int32} {kr : Nat} {nr : Nat} {xr : Nat} {F : (Nat → Int32)} {M : (Nat → Nat → Int32)} (C : x_C p s m args meth c cX6_pageOf 8 (some .int) RX6 D N0 gp) (hrow : ∀ F M, (fixM ad F M ++ XF)[xr]? = some (ad kr, .inl (.char, (nr, .inl (M kr))))) (hK6 : ∀ (x4 : Int32) (x5 : Int32) (H : Heap) (locs : List Loc) (ls : Array Slot), x_R D s N0 (fixM ad F M ++ XF) h H → va_S (x_A N0) s.heap H locs → lv_has ls 8 [(0, .ref (ad 1000)), (1, .ref (ad kr)), (2, .int p2), (3, .int p3), (4, .int x4), (5, .int x5)] → K6 x4 x5 → W p l e rmX6_pageOf s m args below meth c H locs 0 0 (MQ below (x_Qc D N0 (x_Vi (qPi (fixM ad F M ++ XF) h post))) args s 0 0 (x_A N0)) (F0 m 6 ls [])) {x4 : Int32} {x5 : Int32} {x6 : Int32} {H : Heap} {locs : List Loc} {ls : Array Slot} (hR : x_R D s N0 (fixM ad F M ++ XF) h H) (hS : va_S (x_A N0) s.heap H locs) (hl : lv_has ls 8 [(0, .ref (ad 1000)), (1, .ref (ad kr)), (2, .int p2), (3, .int p3), (4, .int x4), (5, .int x5), (6, .int x6)]) (hw : wX6_pageOf_b82 post K6 p2 p3 kr nr xr F M x4 x5 x6) : W p l e rmX6_pageOf s m args below meth c H locs 0 0 (MQ below (x_Qc D N0 (x_Vi (qPi (fixM ad F M ++ XF) h post))) args s 0 0 (x_A N0)) (F0 m 82 ls []) := by
  obtain ⟨⟨hx, hb, hml, hown, hts⟩, hr, hlocks, hG, hN⟩ := id C
  unfold wX6_pageOf_b82 at hw
  refine lv_iload hx hb dX6_pageOf_82 (lv_at hl 6 rfl) ?_
  refine lv_if_eq (tgt := 92) hx hb dX6_pageOf_84 (by decide) (fun c22 => ?_) (fun c22 => ?_)
  · have hw := hw.1 c22
    refine lv_iload hx hb dX6_pageOf_92 (lv_at hl 4 rfl) ?_
    exact kX6_pageOf_b94 C hrow hK6 hR hS (lv_sub hl [0, 1, 2, 3, 5] rfl) hw
  · have hw := hw.2 c22
    refine lv_iload hx hb dX6_pageOf_87 (lv_at hl 5 rfl) ?_
    refine lv_goto (tgt := 94) hx hb dX6_pageOf_89 (by decide) ?_
    exact kX6_pageOf_b94 C hrow hK6 hR hS (lv_sub hl [0, 1, 2, 3, 5] rfl) hw
def tX6_pageOf_b36 (post : Int32 → Prop) (K6 : Int32 → Int32 → Prop) (K36 : Int32 → Int32 → Int32 → Int32 → Prop) (p2 : Int32) (p3 : Int32) (kr : Nat) (nr : Nat) (xr : Nat) (F : (Nat → Int32)) (M : (Nat → Nat → Int32)) (x4 : Int32) (x5 : Int32) (x6 : Int32) (x7 : Int32) : Prop :=
  (p3 ≤ x7 → wX6_pageOf_b82 post K6 p2 p3 kr nr xr F M x4 x5 x6) ∧ (¬ p3 ≤ x7 → (x6 = 0 → wX6_pageOf_b82 post K6 p2 p3 kr nr xr F M x4 x5 x6) ∧ (¬ x6 = 0 → vp_in (((8 : Int32) * x5) + x7) 64 ∧ vp_in (p2 + x7) nr ∧ (((M 3) (((8 : Int32) * x5) + x7).toNatClampNeg) = ((M kr) (p2 + x7).toNatClampNeg) → wX6_pageOf_b74 post K6 K36 p2 p3 kr nr xr F M x4 x5 x7 1) ∧ (¬ ((M 3) (((8 : Int32) * x5) + x7).toNatClampNeg) = ((M kr) (p2 + x7).toNatClampNeg) → wX6_pageOf_b74 post K6 K36 p2 p3 kr nr xr F M x4 x5 x7 0)))
def wX6_pageOf_b36 (post : Int32 → Prop) (K6 : Int32 → Int32 → Prop) (p2 : Int32) (p3 : Int32) (kr : Nat) (nr : Nat) (xr : Nat) (F : (Nat → Int32)) (M : (Nat → Nat → Int32)) : Nat → Int32 → Int32 → Int32 → Int32 → Prop
  | 0 => fun _ _ _ _ => False
  | n + 1 => fun x4 x5 x6 x7 => tX6_pageOf_b36 post K6 (wX6_pageOf_b36 post K6 p2 p3 kr nr xr F M n) p2 p3 kr nr xr F M x4 x5 x6 x7
theorem kX6_pageOf_b36 {post : Int32 → Prop} {K6 : Int32 → Int32 → Prop} {p2 : Int32} {p3 : Int32} {kr : Nat} {nr : Nat} {xr : Nat} {F : (Nat → Int32)} {M : (Nat → Nat → Int32)} (C : x_C p s m args meth c cX6_pageOf 8 (some .int) RX6 D N0 gp) (hrow : ∀ F M, (fixM ad F M ++ XF)[xr]? = some (ad kr, .inl (.char, (nr, .inl (M kr))))) (hK6 : ∀ (x4 : Int32) (x5 : Int32) (H : Heap) (locs : List Loc) (ls : Array Slot), x_R D s N0 (fixM ad F M ++ XF) h H → va_S (x_A N0) s.heap H locs → lv_has ls 8 [(0, .ref (ad 1000)), (1, .ref (ad kr)), (2, .int p2), (3, .int p3), (4, .int x4), (5, .int x5)] → K6 x4 x5 → W p l e rmX6_pageOf s m args below meth c H locs 0 0 (MQ below (x_Qc D N0 (x_Vi (qPi (fixM ad F M ++ XF) h post))) args s 0 0 (x_A N0)) (F0 m 6 ls [])) : ∀ (nn : Nat) (x4 : Int32) (x5 : Int32) (x6 : Int32) (x7 : Int32) (H : Heap) (locs : List Loc) (ls : Array Slot), x_R D s N0 (fixM ad F M ++ XF) h H → va_S (x_A N0) s.heap H locs → lv_has ls 8 [(0, .ref (ad 1000)), (1, .ref (ad kr)), (2, .int p2), (3, .int p3), (4, .int x4), (5, .int x5), (6, .int x6), (7, .int x7)] → wX6_pageOf_b36 post K6 p2 p3 kr nr xr F M nn x4 x5 x6 x7 → W p l e rmX6_pageOf s m args below meth c H locs 0 0 (MQ below (x_Qc D N0 (x_Vi (qPi (fixM ad F M ++ XF) h post))) args s 0 0 (x_A N0)) (F0 m 36 ls []) := by
  obtain ⟨⟨hx, hb, hml, hown, hts⟩, hr, hlocks, hG, hN⟩ := id C
  intro nn
  induction nn with
  | zero =>
    intro x4 x5 x6 x7 H locs ls hR hS hl hw
    exact False.elim hw
  | succ nn ih =>
    intro x4 x5 x6 x7 H locs ls hR hS hl hw
    have hK36 := ih
    have hw : tX6_pageOf_b36 post K6 (wX6_pageOf_b36 post K6 p2 p3 kr nr xr F M nn) p2 p3 kr nr xr F M x4 x5 x6 x7 := hw
    unfold tX6_pageOf_b36 at hw
    refine lv_iload hx hb dX6_pageOf_36 (lv_at hl 7 rfl) ?_
    refine lv_iload_n hx hb dX6_pageOf_38 rfl (lv_at hl 3 rfl) ?_
    refine lv_icmp_ge (tgt := 82) hx hb dX6_pageOf_39 (by decide) (fun c17 => ?_) (fun c17 => ?_)
    · have hw := hw.1 c17
      exact kX6_pageOf_b82 C hrow hK6 hR hS (lv_sub hl [0, 1, 2, 3, 4, 5, 6] rfl) hw
    · have hw := hw.2 c17
      refine lv_iload hx hb dX6_pageOf_42 (lv_at hl 6 rfl) ?_
      refine lv_if_eq (tgt := 82) hx hb dX6_pageOf_44 (by decide) (fun c18 => ?_) (fun c18 => ?_)
      · have hw := hw.1 c18
        exact kX6_pageOf_b82 C hrow hK6 hR hS (lv_sub hl [0, 1, 2, 3, 4, 5, 6] rfl) hw
      · have hw := hw.2 c18
        refine lv_aload_n hx hb dX6_pageOf_47 rfl (lv_at hl 0 rfl) ?_
        refine x_get (ci := 5) (Cn := RX6) (T := TX6) (N := 55) (v := .ref (ad 3)) C (hR.rdX 0 rfl) rfl in_X6 3 (by decide) q1182 (fun _ h9 => h9) rfl dX6_pageOf_48 ?_
        refine lv_bipush (v := 8) hx hb dX6_pageOf_51 (by decide) ?_
        refine lv_iload hx hb dX6_pageOf_53 (lv_at hl 5 rfl) ?_
        refine lv_imul hx hb dX6_pageOf_55 ?_
        refine lv_iload hx hb dX6_pageOf_56 (lv_at hl 7 rfl) ?_
        refine lv_iadd hx hb dX6_pageOf_58 ?_
        obtain ⟨b19, hw⟩ := hw
        refine x_cald (n := 64) (f := (M 3)) C (hR.rdX 2 rfl) b19 dX6_pageOf_59 ?_
        refine lv_aload_n hx hb dX6_pageOf_60 rfl (lv_at hl 1 rfl) ?_
        refine lv_iload_n hx hb dX6_pageOf_61 rfl (lv_at hl 2 rfl) ?_
        refine lv_iload hx hb dX6_pageOf_62 (lv_at hl 7 rfl) ?_
        refine lv_iadd hx hb dX6_pageOf_64 ?_
        obtain ⟨b20, hw⟩ := hw
        refine x_cald (n := nr) (f := (M kr)) C (hR.rdX xr (hrow F M)) b20 dX6_pageOf_65 ?_
        refine lv_icmp_ne (tgt := 73) hx hb dX6_pageOf_66 (by decide) (fun c21 => ?_) (fun c21 => ?_)
        · have hw := hw.2 c21
          refine lv_iconst (v := 0) hx hb dX6_pageOf_73 (by decide) ?_
          exact kX6_pageOf_b74 C hrow hK6 hK36 hR hS (lv_sub hl [0, 1, 2, 3, 4, 5, 7] rfl) hw
        · have hw := hw.1 c21
          refine lv_iconst (v := 1) hx hb dX6_pageOf_69 (by decide) ?_
          refine lv_goto (tgt := 74) hx hb dX6_pageOf_70 (by decide) ?_
          exact kX6_pageOf_b74 C hrow hK6 hK36 hR hS (lv_sub hl [0, 1, 2, 3, 4, 5, 7] rfl) hw
def wX6_pageOf_b31 (post : Int32 → Prop) (K6 : Int32 → Int32 → Prop) (p2 : Int32) (p3 : Int32) (kr : Nat) (nr : Nat) (xr : Nat) (F : (Nat → Int32)) (M : (Nat → Nat → Int32)) (x4 : Int32) (x5 : Int32) (s0 : Int32) : Prop :=
  ∃ n16 : Nat, wX6_pageOf_b36 post K6 p2 p3 kr nr xr F M n16 x4 x5 s0 0
theorem kX6_pageOf_b31 {post : Int32 → Prop} {K6 : Int32 → Int32 → Prop} {p2 : Int32} {p3 : Int32} {kr : Nat} {nr : Nat} {xr : Nat} {F : (Nat → Int32)} {M : (Nat → Nat → Int32)} (C : x_C p s m args meth c cX6_pageOf 8 (some .int) RX6 D N0 gp) (hrow : ∀ F M, (fixM ad F M ++ XF)[xr]? = some (ad kr, .inl (.char, (nr, .inl (M kr))))) (hK6 : ∀ (x4 : Int32) (x5 : Int32) (H : Heap) (locs : List Loc) (ls : Array Slot), x_R D s N0 (fixM ad F M ++ XF) h H → va_S (x_A N0) s.heap H locs → lv_has ls 8 [(0, .ref (ad 1000)), (1, .ref (ad kr)), (2, .int p2), (3, .int p3), (4, .int x4), (5, .int x5)] → K6 x4 x5 → W p l e rmX6_pageOf s m args below meth c H locs 0 0 (MQ below (x_Qc D N0 (x_Vi (qPi (fixM ad F M ++ XF) h post))) args s 0 0 (x_A N0)) (F0 m 6 ls [])) {x4 : Int32} {x5 : Int32} {s0 : Int32} {H : Heap} {locs : List Loc} {ls : Array Slot} (hR : x_R D s N0 (fixM ad F M ++ XF) h H) (hS : va_S (x_A N0) s.heap H locs) (hl : lv_has ls 8 [(0, .ref (ad 1000)), (1, .ref (ad kr)), (2, .int p2), (3, .int p3), (4, .int x4), (5, .int x5)]) (hw : wX6_pageOf_b31 post K6 p2 p3 kr nr xr F M x4 x5 s0) : W p l e rmX6_pageOf s m args below meth c H locs 0 0 (MQ below (x_Qc D N0 (x_Vi (qPi (fixM ad F M ++ XF) h post))) args s 0 0 (x_A N0)) (F0 m 31 ls [.int s0]) := by
  obtain ⟨⟨hx, hb, hml, hown, hts⟩, hr, hlocks, hG, hN⟩ := id C
  unfold wX6_pageOf_b31 at hw
  refine lv_istore (lv' := [(6, .int s0), (0, .ref (ad 1000)), (1, .ref (ad kr)), (2, .int p2), (3, .int p3), (4, .int x4), (5, .int x5)]) hx hb dX6_pageOf_31 hl (by decide) rfl (fun ls hl => ?_)
  refine lv_iconst (v := 0) hx hb dX6_pageOf_33 (by decide) ?_
  refine lv_istore (lv' := [(7, .int 0), (6, .int s0), (0, .ref (ad 1000)), (1, .ref (ad kr)), (2, .int p2), (3, .int p3), (4, .int x4), (5, .int x5)]) hx hb dX6_pageOf_34 hl (by decide) rfl (fun ls hl => ?_)
  obtain ⟨n16, hw⟩ := hw
  exact kX6_pageOf_b36 C hrow hK6 n16 _ _ _ _ _ _ _ hR hS (lv_sub hl [2, 3, 4, 5, 6, 7, 1, 0] rfl) hw
def wX6_pageOf_b102 (post : Int32 → Prop) (p2 : Int32) (p3 : Int32) (kr : Nat) (nr : Nat) (xr : Nat) (F : (Nat → Int32)) (M : (Nat → Nat → Int32)) (x4 : Int32) : Prop :=
  post x4 
theorem kX6_pageOf_b102 {post : Int32 → Prop} {p2 : Int32} {p3 : Int32} {kr : Nat} {nr : Nat} {xr : Nat} {F : (Nat → Int32)} {M : (Nat → Nat → Int32)} (C : x_C p s m args meth c cX6_pageOf 8 (some .int) RX6 D N0 gp) (hrow : ∀ F M, (fixM ad F M ++ XF)[xr]? = some (ad kr, .inl (.char, (nr, .inl (M kr))))) {x4 : Int32} {H : Heap} {locs : List Loc} {ls : Array Slot} (hR : x_R D s N0 (fixM ad F M ++ XF) h H) (hS : va_S (x_A N0) s.heap H locs) (hl : lv_has ls 8 [(4, .int x4)]) (hw : wX6_pageOf_b102 post p2 p3 kr nr xr F M x4) : W p l e rmX6_pageOf s m args below meth c H locs 0 0 (MQ below (x_Qc D N0 (x_Vi (qPi (fixM ad F M ++ XF) h post))) args s 0 0 (x_A N0)) (F0 m 102 ls []) := by
  obtain ⟨⟨hx, hb, hml, hown, hts⟩, hr, hlocks, hG, hN⟩ := id C
  unfold wX6_pageOf_b102 at hw
  refine lv_iload hx hb dX6_pageOf_102 (lv_at hl 0 rfl) ?_
  exact x_endi C hR hS ⟨_, rfl, ⟨rfl, rfl, hw⟩⟩ (Nat.le_refl _) (Nat.le_refl _) dX6_pageOf_104
def tX6_pageOf_b6 (post : Int32 → Prop) (K6 : Int32 → Int32 → Prop) (p2 : Int32) (p3 : Int32) (kr : Nat) (nr : Nat) (xr : Nat) (F : (Nat → Int32)) (M : (Nat → Nat → Int32)) (x4 : Int32) (x5 : Int32) : Prop :=
  ((F 1) ≤ x5 → wX6_pageOf_b102 post p2 p3 kr nr xr F M x4) ∧ (¬ (F 1) ≤ x5 → vp_in x5 8 ∧ (((M 2) x5.toNatClampNeg) = p3 → wX6_pageOf_b31 post K6 p2 p3 kr nr xr F M x4 x5 1) ∧ (¬ ((M 2) x5.toNatClampNeg) = p3 → wX6_pageOf_b31 post K6 p2 p3 kr nr xr F M x4 x5 0))
def wX6_pageOf_b6 (post : Int32 → Prop) (p2 : Int32) (p3 : Int32) (kr : Nat) (nr : Nat) (xr : Nat) (F : (Nat → Int32)) (M : (Nat → Nat → Int32)) : Nat → Int32 → Int32 → Prop
  | 0 => fun _ _ => False
  | n + 1 => fun x4 x5 => tX6_pageOf_b6 post (wX6_pageOf_b6 post p2 p3 kr nr xr F M n) p2 p3 kr nr xr F M x4 x5
theorem kX6_pageOf_b6 {post : Int32 → Prop} {p2 : Int32} {p3 : Int32} {kr : Nat} {nr : Nat} {xr : Nat} {F : (Nat → Int32)} {M : (Nat → Nat → Int32)} (C : x_C p s m args meth c cX6_pageOf 8 (some .int) RX6 D N0 gp) (hrow : ∀ F M, (fixM ad F M ++ XF)[xr]? = some (ad kr, .inl (.char, (nr, .inl (M kr))))) : ∀ (nn : Nat) (x4 : Int32) (x5 : Int32) (H : Heap) (locs : List Loc) (ls : Array Slot), x_R D s N0 (fixM ad F M ++ XF) h H → va_S (x_A N0) s.heap H locs → lv_has ls 8 [(0, .ref (ad 1000)), (1, .ref (ad kr)), (2, .int p2), (3, .int p3), (4, .int x4), (5, .int x5)] → wX6_pageOf_b6 post p2 p3 kr nr xr F M nn x4 x5 → W p l e rmX6_pageOf s m args below meth c H locs 0 0 (MQ below (x_Qc D N0 (x_Vi (qPi (fixM ad F M ++ XF) h post))) args s 0 0 (x_A N0)) (F0 m 6 ls []) := by
  obtain ⟨⟨hx, hb, hml, hown, hts⟩, hr, hlocks, hG, hN⟩ := id C
  intro nn
  induction nn with
  | zero =>
    intro x4 x5 H locs ls hR hS hl hw
    exact False.elim hw
  | succ nn ih =>
    intro x4 x5 H locs ls hR hS hl hw
    have hK6 := ih
    have hw : tX6_pageOf_b6 post (wX6_pageOf_b6 post p2 p3 kr nr xr F M nn) p2 p3 kr nr xr F M x4 x5 := hw
    unfold tX6_pageOf_b6 at hw
    refine lv_iload hx hb dX6_pageOf_6 (lv_at hl 5 rfl) ?_
    refine lv_aload_n hx hb dX6_pageOf_8 rfl (lv_at hl 0 rfl) ?_
    refine x_get (ci := 5) (Cn := RX6) (T := TX6) (N := 55) (v := .int (F 1)) C (hR.rdX 0 rfl) rfl in_X6 1 (by decide) q1180 (fun _ h9 => h9) rfl dX6_pageOf_9 ?_
    refine lv_icmp_ge (tgt := 102) hx hb dX6_pageOf_12 (by decide) (fun c13 => ?_) (fun c13 => ?_)
    · have hw := hw.1 c13
      exact kX6_pageOf_b102 C hrow hR hS (lv_sub hl [4] rfl) hw
    · have hw := hw.2 c13
      refine lv_aload_n hx hb dX6_pageOf_15 rfl (lv_at hl 0 rfl) ?_
      refine x_get (ci := 5) (Cn := RX6) (T := TX6) (N := 55) (v := .ref (ad 2)) C (hR.rdX 0 rfl) rfl in_X6 2 (by decide) q1181 (fun _ h9 => h9) rfl dX6_pageOf_16 ?_
      refine lv_iload hx hb dX6_pageOf_19 (lv_at hl 5 rfl) ?_
      obtain ⟨b14, hw⟩ := hw
      refine x_iald (n := 8) (f := (M 2)) C (hR.rdX 1 rfl) b14 dX6_pageOf_21 ?_
      refine lv_iload_n hx hb dX6_pageOf_22 rfl (lv_at hl 3 rfl) ?_
      refine lv_icmp_ne (tgt := 30) hx hb dX6_pageOf_23 (by decide) (fun c15 => ?_) (fun c15 => ?_)
      · have hw := hw.2 c15
        refine lv_iconst (v := 0) hx hb dX6_pageOf_30 (by decide) ?_
        exact kX6_pageOf_b31 C hrow hK6 hR hS (lv_sub hl [0, 1, 2, 3, 4, 5] rfl) hw
      · have hw := hw.1 c15
        refine lv_iconst (v := 1) hx hb dX6_pageOf_26 (by decide) ?_
        refine lv_goto (tgt := 31) hx hb dX6_pageOf_27 (by decide) ?_
        exact kX6_pageOf_b31 C hrow hK6 hR hS (lv_sub hl [0, 1, 2, 3, 4, 5] rfl) hw
end
def wX6_pageOf (post : Int32 → Prop) (p2 : Int32) (p3 : Int32) (kr : Nat) (nr : Nat) (xr : Nat) (F : (Nat → Int32)) (M : (Nat → Nat → Int32)) : Prop :=
  ∃ n12 : Nat, wX6_pageOf_b6 post p2 p3 kr nr xr F M n12 (-1) 0
theorem kX6_pageOf (l : Launch) (D : va_G) (N0 : Nat) (gp : Nat → Nat) (ad : Nat → Nat) (XF : x_X) (h : x_H) (p2 : Int32) (p3 : Int32) (kr : Nat) (nr : Nat) (xr : Nat) (F : (Nat → Int32)) (M : (Nat → Nat → Int32)) (post : Int32 → Prop) (hrow : ∀ F M, (fixM ad F M ++ XF)[xr]? = some (ad kr, .inl (.char, (nr, .inl (M kr))))) (hw : wX6_pageOf post p2 p3 kr nr xr F M ) : Met l yX6_pageOf (ws_ yX6_pageOf cX6_pageOf 8 (some .int)) rmX6_pageOf (x_Pc D N0 gp (fixM ad F M ++ XF) h [.ref (ad 1000), .ref (ad kr), .int p2, .int p3]) (x_Qc D N0 (x_Vi (qPi (fixM ad F M ++ XF) h post))) 0 0 (x_A N0) := by
  refine x_start (lv := [(0, .ref (ad 1000)), (1, .ref (ad kr)), (2, .int p2), (3, .int p3)]) (by decide) rfl (Nat.le_of_ble_eq_true rfl) rfl ?_
  intro p e s m below meth c C hR ls hl
  have hS : va_S (x_A N0) s.heap s.heap [] := va_S.rf
  obtain ⟨⟨hx, hb, hml, hown, hts⟩, hr, hlocks, hG, hN⟩ := id C
  unfold wX6_pageOf at hw
  refine lv_iconst (v := -1) hx hb dX6_pageOf_0 (by decide) ?_
  refine lv_istore (lv' := [(4, .int (-1)), (0, .ref (ad 1000)), (1, .ref (ad kr)), (2, .int p2), (3, .int p3)]) hx hb dX6_pageOf_1 hl (by decide) rfl (fun ls hl => ?_)
  refine lv_iconst (v := 0) hx hb dX6_pageOf_3 (by decide) ?_
  refine lv_istore (lv' := [(5, .int 0), (4, .int (-1)), (0, .ref (ad 1000)), (1, .ref (ad kr)), (2, .int p2), (3, .int p3)]) hx hb dX6_pageOf_4 hl (by decide) rfl (fun ls hl => ?_)
  obtain ⟨n12, hw⟩ := hw
  exact kX6_pageOf_b6 C hrow n12 _ _ _ _ _ hR hS (lv_sub hl [2, 3, 4, 5, 1, 0] rfl) hw
/-- PageServerModel.page(IIII)I -/
abbrev rmX6_page : Room := { frames := 3, cells := 0, slots := 0, locals := 66 }
section
variable {p : Program} {l : Launch} {e : Env} {s : State} {m : MethodId} {args : Array Value} {below : List Frame} {meth : Method} {c : Code} {D : va_G} {N0 : Nat} {gp : Nat → Nat} {ad : Nat → Nat} {XF : x_X} {h : x_H}
def wX6_page_b207 (post : Int32 → (Nat → Int32) → (Nat → Nat → Int32) → Prop) (p1 : Int32) (p2 : Int32) (p3 : Int32) (p4 : Int32) (F : (Nat → Int32)) (M : (Nat → Nat → Int32)) : Prop :=
  vp_in (F 1) 8 ∧ vp_in (F 1) 8 ∧ post (((F 1) + 1) - 1) (upd F 1 ((F 1) + 1)) (va_up (va_up M 4 (upd (M 4) (F 1).toNatClampNeg p3)) 5 (upd (M 5) (F 1).toNatClampNeg p4))
theorem kX6_page_b207 {post : Int32 → (Nat → Int32) → (Nat → Nat → Int32) → Prop} {p1 : Int32} {p2 : Int32} {p3 : Int32} {p4 : Int32} (C : x_C p s m args meth c cX6_page 8 (some .int) RX6 D N0 gp) {F : (Nat → Int32)} {M : (Nat → Nat → Int32)} {H : Heap} {locs : List Loc} {ls : Array Slot} (hR : x_R D s N0 (fixM ad F M ++ XF) h H) (hS : va_S (x_A N0) s.heap H locs) (hl : lv_has ls 8 [(0, .ref (ad 1000)), (3, .int p3), (4, .int p4)]) (hw : wX6_page_b207 post p1 p2 p3 p4 F M) : W p l e rmX6_page s m args below meth c H locs 0 0 (MQ below (x_Qc D N0 (x_Vi (qMi ad XF h post))) args s 0 0 (x_A N0)) (F0 m 207 ls []) := by
  obtain ⟨⟨hx, hb, hml, hown, hts⟩, hr, hlocks, hG, hN⟩ := id C
  unfold wX6_page_b207 at hw
  refine lv_aload_n hx hb dX6_page_207 rfl (lv_at hl 0 rfl) ?_
  refine x_get (ci := 5) (Cn := RX6) (T := TX6) (N := 55) (v := .ref (ad 4)) C (hR.rdX 0 rfl) rfl in_X6 4 (by decide) q1183 (fun _ h9 => h9) rfl dX6_page_208 ?_
  refine lv_aload_n hx hb dX6_page_211 rfl (lv_at hl 0 rfl) ?_
  refine x_get (ci := 5) (Cn := RX6) (T := TX6) (N := 55) (v := .int (F 1)) C (hR.rdX 0 rfl) rfl in_X6 1 (by decide) q1180 (fun _ h9 => h9) rfl dX6_page_212 ?_
  refine lv_iload_n hx hb dX6_page_215 rfl (lv_at hl 1 rfl) ?_
  obtain ⟨b63, hw⟩ := hw
  refine x_iastX (n := 8) (f := (M 4)) C hR hS 3 rfl b63 (sM_a4 ..) dX6_page_216 (fun H locs hR hS => ?_)
  refine lv_aload_n hx hb dX6_page_217 rfl (lv_at hl 0 rfl) ?_
  refine x_get (ci := 5) (Cn := RX6) (T := TX6) (N := 55) (v := .ref (ad 5)) C (hR.rdX 0 rfl) rfl in_X6 5 (by decide) q1184 (fun _ h9 => h9) rfl dX6_page_218 ?_
  refine lv_aload_n hx hb dX6_page_221 rfl (lv_at hl 0 rfl) ?_
  refine x_get (ci := 5) (Cn := RX6) (T := TX6) (N := 55) (v := .int (F 1)) C (hR.rdX 0 rfl) rfl in_X6 1 (by decide) q1180 (fun _ h9 => h9) rfl dX6_page_222 ?_
  refine lv_iload hx hb dX6_page_225 (lv_at hl 2 rfl) ?_
  obtain ⟨b64, hw⟩ := hw
  refine x_iastX (n := 8) (f := (M 5)) C hR hS 4 rfl b64 (sM_a5 ..) dX6_page_227 (fun H locs hR hS => ?_)
  refine lv_aload_n hx hb dX6_page_228 rfl (lv_at hl 0 rfl) ?_
  refine lv_dup hx hb dX6_page_229 rfl ?_
  refine x_get (ci := 5) (Cn := RX6) (T := TX6) (N := 55) (v := .int (F 1)) C (hR.rdX 0 rfl) rfl in_X6 1 (by decide) q1180 (fun _ h9 => h9) rfl dX6_page_230 ?_
  refine lv_iconst (v := 1) hx hb dX6_page_233 (by decide) ?_
  refine lv_iadd hx hb dX6_page_234 ?_
  refine x_putX (ci := 5) (Cn := RX6) (T := TX6) (N := 55) (v := .int ((F 1) + 1)) C hR hS 0 rfl rfl in_X6 tyX6_ok nmX6 1 (by decide) q1180 (fun _ h9 => h9) rfl rfl rfl (Nat.le_of_ble_eq_true rfl) (sM_f1 ..) dX6_page_235 (fun H locs hR hS => ?_)
  refine lv_aload_n hx hb dX6_page_238 rfl (lv_at hl 0 rfl) ?_
  refine x_get (ci := 5) (Cn := RX6) (T := TX6) (N := 55) (v := .int ((F 1) + 1)) C (hR.rdX 0 rfl) rfl in_X6 1 (by decide) q1180 (fun _ h9 => h9) rfl dX6_page_239 ?_
  refine lv_iconst (v := 1) hx hb dX6_page_242 (by decide) ?_
  refine lv_isub hx hb dX6_page_243 ?_
  exact x_endi C hR hS ⟨_, rfl, ⟨_, _, rfl, rfl, hw⟩⟩ (Nat.le_refl _) (Nat.le_refl _) dX6_page_244
def tX6_page_b172 (post : Int32 → (Nat → Int32) → (Nat → Nat → Int32) → Prop) (K172 : (Nat → Int32) → (Nat → Nat → Int32) → Int32 → Int32 → Prop) (p1 : Int32) (p2 : Int32) (p3 : Int32) (p4 : Int32) (F : (Nat → Int32)) (M : (Nat → Nat → Int32)) (x6 : Int32) (x7 : Int32) : Prop :=
  (x6 ≤ x7 → wX6_page_b207 post p1 p2 p3 p4 F M) ∧ (¬ x6 ≤ x7 → vp_in x7 20 ∧ vp_in (((8 : Int32) * (F 1)) + x7) 64 ∧ K172 F (va_up M 3 (upd (M 3) (((8 : Int32) * (F 1)) + x7).toNatClampNeg (vp_nar .char ((M 46) x7.toNatClampNeg)))) x6 (x7 + 1))
def wX6_page_b172 (post : Int32 → (Nat → Int32) → (Nat → Nat → Int32) → Prop) (p1 : Int32) (p2 : Int32) (p3 : Int32) (p4 : Int32) : Nat → (Nat → Int32) → (Nat → Nat → Int32) → Int32 → Int32 → Prop
  | 0 => fun _ _ _ _ => False
  | n + 1 => fun F M x6 x7 => tX6_page_b172 post (wX6_page_b172 post p1 p2 p3 p4 n) p1 p2 p3 p4 F M x6 x7
theorem kX6_page_b172 {post : Int32 → (Nat → Int32) → (Nat → Nat → Int32) → Prop} {p1 : Int32} {p2 : Int32} {p3 : Int32} {p4 : Int32} (C : x_C p s m args meth c cX6_page 8 (some .int) RX6 D N0 gp) : ∀ (nn : Nat) (F : (Nat → Int32)) (M : (Nat → Nat → Int32)) (x6 : Int32) (x7 : Int32) (H : Heap) (locs : List Loc) (ls : Array Slot), x_R D s N0 (fixM ad F M ++ XF) h H → va_S (x_A N0) s.heap H locs → lv_has ls 8 [(0, .ref (ad 1000)), (3, .int p3), (4, .int p4), (6, .int x6), (7, .int x7)] → wX6_page_b172 post p1 p2 p3 p4 nn F M x6 x7 → W p l e rmX6_page s m args below meth c H locs 0 0 (MQ below (x_Qc D N0 (x_Vi (qMi ad XF h post))) args s 0 0 (x_A N0)) (F0 m 172 ls []) := by
  obtain ⟨⟨hx, hb, hml, hown, hts⟩, hr, hlocks, hG, hN⟩ := id C
  intro nn
  induction nn with
  | zero =>
    intro F M x6 x7 H locs ls hR hS hl hw
    exact False.elim hw
  | succ nn ih =>
    intro F M x6 x7 H locs ls hR hS hl hw
    have hK172 := ih
    have hw : tX6_page_b172 post (wX6_page_b172 post p1 p2 p3 p4 nn) p1 p2 p3 p4 F M x6 x7 := hw
    unfold tX6_page_b172 at hw
    refine lv_iload hx hb dX6_page_172 (lv_at hl 4 rfl) ?_
    refine lv_iload hx hb dX6_page_174 (lv_at hl 3 rfl) ?_
    refine lv_icmp_ge (tgt := 207) hx hb dX6_page_176 (by decide) (fun c60 => ?_) (fun c60 => ?_)
    · have hw := hw.1 c60
      exact kX6_page_b207 C hR hS (lv_sub hl [0, 1, 2] rfl) hw
    · have hw := hw.2 c60
      refine lv_aload_n hx hb dX6_page_179 rfl (lv_at hl 0 rfl) ?_
      refine x_get (ci := 5) (Cn := RX6) (T := TX6) (N := 55) (v := .ref (ad 3)) C (hR.rdX 0 rfl) rfl in_X6 3 (by decide) q1182 (fun _ h9 => h9) rfl dX6_page_180 ?_
      refine lv_bipush (v := 8) hx hb dX6_page_183 (by decide) ?_
      refine lv_aload_n hx hb dX6_page_185 rfl (lv_at hl 0 rfl) ?_
      refine x_get (ci := 5) (Cn := RX6) (T := TX6) (N := 55) (v := .int (F 1)) C (hR.rdX 0 rfl) rfl in_X6 1 (by decide) q1180 (fun _ h9 => h9) rfl dX6_page_186 ?_
      refine lv_imul hx hb dX6_page_189 ?_
      refine lv_iload hx hb dX6_page_190 (lv_at hl 4 rfl) ?_
      refine lv_iadd hx hb dX6_page_192 ?_
      refine lv_aload_n hx hb dX6_page_193 rfl (lv_at hl 0 rfl) ?_
      refine x_get (ci := 5) (Cn := RX6) (T := TX6) (N := 55) (v := .ref (ad 46)) C (hR.rdX 0 rfl) rfl in_X6 46 (by decide) q1225 (fun _ h9 => h9) rfl dX6_page_194 ?_
      refine lv_iload hx hb dX6_page_197 (lv_at hl 4 rfl) ?_
      obtain ⟨b61, hw⟩ := hw
      refine x_cald (n := 20) (f := (M 46)) C (hR.rdX 21 rfl) b61 dX6_page_199 ?_
      obtain ⟨b62, hw⟩ := hw
      refine x_castX (n := 64) (f := (M 3)) C hR hS 2 rfl b62 (sM_a3 ..) dX6_page_200 (fun H locs hR hS => ?_)
      refine lv_iinc (v := x7 + 1) (lv' := [(7, .int (x7 + 1)), (0, .ref (ad 1000)), (3, .int p3), (4, .int p4), (6, .int x6)]) hx hb dX6_page_201 hl (k := 4) rfl (x_inc 1 1 (by decide)) (by decide) rfl (fun ls hl => ?_)
      refine lv_goto (tgt := 172) hx hb dX6_page_204 (by decide) ?_
      exact hK172 _ _ _ _ _ _ _ hR hS (lv_sub hl [1, 2, 3, 4, 0] rfl) hw
def wX6_page_b146 (post : Int32 → (Nat → Int32) → (Nat → Nat → Int32) → Prop) (p1 : Int32) (p2 : Int32) (p3 : Int32) (p4 : Int32) (F : (Nat → Int32)) (M : (Nat → Nat → Int32)) (x6 : Int32) (s0 : Int32) : Prop :=
  (s0 ≤ 0 → vp_in (F 1) 8 ∧ ∃ n59 : Nat, wX6_page_b172 post p1 p2 p3 p4 n59 (upd F 0 s0) (va_up M 2 (upd (M 2) (F 1).toNatClampNeg x6)) x6 0) ∧ (¬ s0 ≤ 0 → post 0 (upd F 0 s0) M)
theorem kX6_page_b146 {post : Int32 → (Nat → Int32) → (Nat → Nat → Int32) → Prop} {p1 : Int32} {p2 : Int32} {p3 : Int32} {p4 : Int32} (C : x_C p s m args meth c cX6_page 8 (some .int) RX6 D N0 gp) {F : (Nat → Int32)} {M : (Nat → Nat → Int32)} {x6 : Int32} {s0 : Int32} {H : Heap} {locs : List Loc} {ls : Array Slot} (hR : x_R D s N0 (fixM ad F M ++ XF) h H) (hS : va_S (x_A N0) s.heap H locs) (hl : lv_has ls 8 [(0, .ref (ad 1000)), (3, .int p3), (4, .int p4), (6, .int x6)]) (hw : wX6_page_b146 post p1 p2 p3 p4 F M x6 s0) : W p l e rmX6_page s m args below meth c H locs 0 0 (MQ below (x_Qc D N0 (x_Vi (qMi ad XF h post))) args s 0 0 (x_A N0)) (F0 m 146 ls [.int s0, .ref (ad 1000)]) := by
  obtain ⟨⟨hx, hb, hml, hown, hts⟩, hr, hlocks, hG, hN⟩ := id C
  unfold wX6_page_b146 at hw
  refine x_putX (ci := 5) (Cn := RX6) (T := TX6) (N := 55) (v := .int s0) C hR hS 0 rfl rfl in_X6 tyX6_ok nmX6 0 (by decide) q1179 (fun _ h9 => h9) rfl rfl rfl (Nat.le_of_ble_eq_true rfl) (sM_f0 ..) dX6_page_146 (fun H locs hR hS => ?_)
  refine lv_aload_n hx hb dX6_page_149 rfl (lv_at hl 0 rfl) ?_
  refine x_get (ci := 5) (Cn := RX6) (T := TX6) (N := 55) (v := .int s0) C (hR.rdX 0 rfl) rfl in_X6 0 (by decide) q1179 (fun _ h9 => h9) rfl dX6_page_150 ?_
  refine lv_if_le (tgt := 158) hx hb dX6_page_153 (by decide) (fun c57 => ?_) (fun c57 => ?_)
  · have hw := hw.1 c57
    refine lv_aload_n hx hb dX6_page_158 rfl (lv_at hl 0 rfl) ?_
    refine x_get (ci := 5) (Cn := RX6) (T := TX6) (N := 55) (v := .ref (ad 2)) C (hR.rdX 0 rfl) rfl in_X6 2 (by decide) q1181 (fun _ h9 => h9) rfl dX6_page_159 ?_
    refine lv_aload_n hx hb dX6_page_162 rfl (lv_at hl 0 rfl) ?_
    refine x_get (ci := 5) (Cn := RX6) (T := TX6) (N := 55) (v := .int (F 1)) C (hR.rdX 0 rfl) rfl in_X6 1 (by decide) q1180 (fun _ h9 => h9) rfl dX6_page_163 ?_
    refine lv_iload hx hb dX6_page_166 (lv_at hl 3 rfl) ?_
    obtain ⟨b58, hw⟩ := hw
    refine x_iastX (n := 8) (f := (M 2)) C hR hS 1 rfl b58 (sM_a2 ..) dX6_page_168 (fun H locs hR hS => ?_)
    refine lv_iconst (v := 0) hx hb dX6_page_169 (by decide) ?_
    refine lv_istore (lv' := [(7, .int 0), (0, .ref (ad 1000)), (3, .int p3), (4, .int p4), (6, .int x6)]) hx hb dX6_page_170 hl (by decide) rfl (fun ls hl => ?_)
    obtain ⟨n59, hw⟩ := hw
    exact kX6_page_b172 C n59 _ _ _ _ _ _ _ hR hS (lv_sub hl [1, 2, 3, 4, 0] rfl) hw
  · have hw := hw.2 c57
    refine lv_iconst (v := 0) hx hb dX6_page_156 (by decide) ?_
    exact x_endi C hR hS ⟨_, rfl, ⟨_, _, rfl, rfl, hw⟩⟩ (Nat.le_refl _) (Nat.le_refl _) dX6_page_157
def wX6_page_b61 (post : Int32 → (Nat → Int32) → (Nat → Nat → Int32) → Prop) (p1 : Int32) (p2 : Int32) (p3 : Int32) (p4 : Int32) (F : (Nat → Int32)) (M : (Nat → Nat → Int32)) (s0 : Int32) : Prop :=
  (s0 = 0 → wX6_refuse (fun r55 F56 M56 => post r55 F56 M56) 1 F M) ∧ (¬ s0 = 0 → wX6_lay (fun F47 M47 => wX6_letters (fun r48 => wX6_lay (fun F49 M49 => wX6_letters (fun r50 => wX6_letters (fun r51 => wX6_pageOf (fun r52 => (r52 = (-1) → ((F49 1) = 8 → wX6_page_b146 post p1 p2 p3 p4 F49 M49 (((1 : Int32) + r50) + r51) 2) ∧ (¬ (F49 1) = 8 → wX6_page_b146 post p1 p2 p3 p4 F49 M49 (((1 : Int32) + r50) + r51) 0)) ∧ (¬ r52 = (-1) → wX6_page_b146 post p1 p2 p3 p4 F49 M49 (((1 : Int32) + r50) + r51) 1)) 0 (((1 : Int32) + r50) + r51) 46 20 21 F49 M49) p2) p1) ((1 : Int32) + r48) p2 F47 M47) p1) 1 p1 F (va_up M 46 (upd (M 46) ((0 : Int32).toNatClampNeg) (vp_nar .char 47))))
theorem kX6_page_b61 {post : Int32 → (Nat → Int32) → (Nat → Nat → Int32) → Prop} {p1 : Int32} {p2 : Int32} {p3 : Int32} {p4 : Int32} (C : x_C p s m args meth c cX6_page 8 (some .int) RX6 D N0 gp) {F : (Nat → Int32)} {M : (Nat → Nat → Int32)} {s0 : Int32} {H : Heap} {locs : List Loc} {ls : Array Slot} (hR : x_R D s N0 (fixM ad F M ++ XF) h H) (hS : va_S (x_A N0) s.heap H locs) (hl : lv_has ls 8 [(0, .ref (ad 1000)), (1, .int p1), (2, .int p2), (3, .int p3), (4, .int p4)]) (hw : wX6_page_b61 post p1 p2 p3 p4 F M s0) : W p l e rmX6_page s m args below meth c H locs 0 0 (MQ below (x_Qc D N0 (x_Vi (qMi ad XF h post))) args s 0 0 (x_A N0)) (F0 m 61 ls [.int s0]) := by
  obtain ⟨⟨hx, hb, hml, hown, hts⟩, hr, hlocks, hG, hN⟩ := id C
  unfold wX6_page_b61 at hw
  refine lv_istore (lv' := [(5, .int s0), (0, .ref (ad 1000)), (1, .int p1), (2, .int p2), (3, .int p3), (4, .int p4)]) hx hb dX6_page_61 hl (by decide) rfl (fun ls hl => ?_)
  refine lv_iload hx hb dX6_page_63 (lv_at hl 0 rfl) ?_
  refine lv_if_ne (tgt := 74) hx hb dX6_page_65 (by decide) (fun c46 => ?_) (fun c46 => ?_)
  · have hw := hw.2 c46
    refine lv_aload_n hx hb dX6_page_74 rfl (lv_at hl 1 rfl) ?_
    refine x_get (ci := 5) (Cn := RX6) (T := TX6) (N := 55) (v := .ref (ad 46)) C (hR.rdX 0 rfl) rfl in_X6 46 (by decide) q1225 (fun _ h9 => h9) rfl dX6_page_75 ?_
    refine lv_iconst (v := 0) hx hb dX6_page_78 (by decide) ?_
    refine lv_bipush (v := 47) hx hb dX6_page_79 (by decide) ?_
    refine x_castX (n := 20) (f := (M 46)) C hR hS 21 rfl (by unfold vp_in; decide) (sM_a46 ..) dX6_page_81 (fun H locs hR hS => ?_)
    refine lv_aload_n hx hb dX6_page_82 rfl (lv_at hl 1 rfl) ?_
    refine lv_iconst (v := 1) hx hb dX6_page_83 (by decide) ?_
    refine lv_iload_n hx hb dX6_page_84 rfl (lv_at hl 2 rfl) ?_
    refine x_callv0 (x_runV (n := 2) (As := [.int 1, .int p1]) C hR hS (kX6_lay l D N0 gp ad XF _ 1 p1 F (va_up M 46 (upd (M 46) ((0 : Int32).toNatClampNeg) (vp_nar .char 47))) _ hw) (lw_V q1375 q1377 qs43 q104 q1378) rfl rfl (by decide +kernel) ⟨Nat.le_of_ble_eq_true rfl, Nat.le_of_ble_eq_true rfl⟩ (x_recv C (hR.rdX 0 rfl) rfl) rfl hl.1 rfl (Nat.le_of_ble_eq_true rfl) dX6_page_85 ⟨Nat.le_refl _, Nat.le_refl _⟩) hS (fun X1 h1 H locs hq hR hS => ?_)
    obtain ⟨F47, M47, e1, e2, hw⟩ := hq
    rw [e1, e2] at hR
    refine lv_aload_n hx hb dX6_page_88 rfl (lv_at hl 1 rfl) ?_
    refine lv_iconst (v := 1) hx hb dX6_page_89 (by decide) ?_
    refine lv_iload_n hx hb dX6_page_90 rfl (lv_at hl 2 rfl) ?_
    refine x_calli0 (x_runS (n := 1) (As := [.int p1]) C hR hS (kX6_letters l D N0 gp _ _ p1 _ hw) (lw_S q1365 q1366 q104 q1367) rfl rfl (by decide +kernel) ⟨Nat.le_of_ble_eq_true rfl, Nat.le_of_ble_eq_true rfl⟩ rfl hl.1 rfl (Nat.le_of_ble_eq_true rfl) dX6_page_91 ⟨Nat.le_refl _, Nat.le_refl _⟩) hS (fun r48 X1 h1 H locs hq hR hS => ?_)
    obtain ⟨e1, e2, hw⟩ := hq
    rw [e1, e2] at hR
    refine lv_iadd hx hb dX6_page_94 ?_
    refine lv_iload_n hx hb dX6_page_95 rfl (lv_at hl 3 rfl) ?_
    refine x_callv0 (x_runV (n := 2) (As := [.int ((1 : Int32) + r48), .int p2]) C hR hS (kX6_lay l D N0 gp ad XF _ ((1 : Int32) + r48) p2 F47 M47 _ hw) (lw_V q1375 q1377 qs43 q104 q1378) rfl rfl (by decide +kernel) ⟨Nat.le_of_ble_eq_true rfl, Nat.le_of_ble_eq_true rfl⟩ (x_recv C (hR.rdX 0 rfl) rfl) rfl hl.1 rfl (Nat.le_of_ble_eq_true rfl) dX6_page_96 ⟨Nat.le_refl _, Nat.le_refl _⟩) hS (fun X1 h1 H locs hq hR hS => ?_)
    obtain ⟨F49, M49, e1, e2, hw⟩ := hq
    rw [e1, e2] at hR
    refine lv_iconst (v := 1) hx hb dX6_page_99 (by decide) ?_
    refine lv_iload_n hx hb dX6_page_100 rfl (lv_at hl 2 rfl) ?_
    refine x_calli0 (x_runS (n := 1) (As := [.int p1]) C hR hS (kX6_letters l D N0 gp _ _ p1 _ hw) (lw_S q1365 q1366 q104 q1367) rfl rfl (by decide +kernel) ⟨Nat.le_of_ble_eq_true rfl, Nat.le_of_ble_eq_true rfl⟩ rfl hl.1 rfl (Nat.le_of_ble_eq_true rfl) dX6_page_101 ⟨Nat.le_refl _, Nat.le_refl _⟩) hS (fun r50 X1 h1 H locs hq hR hS => ?_)
    obtain ⟨e1, e2, hw⟩ := hq
    rw [e1, e2] at hR
    refine lv_iadd hx hb dX6_page_104 ?_
    refine lv_iload_n hx hb dX6_page_105 rfl (lv_at hl 3 rfl) ?_
    refine x_calli0 (x_runS (n := 1) (As := [.int p2]) C hR hS (kX6_letters l D N0 gp _ _ p2 _ hw) (lw_S q1365 q1366 q104 q1367) rfl rfl (by decide +kernel) ⟨Nat.le_of_ble_eq_true rfl, Nat.le_of_ble_eq_true rfl⟩ rfl hl.1 rfl (Nat.le_of_ble_eq_true rfl) dX6_page_106 ⟨Nat.le_refl _, Nat.le_refl _⟩) hS (fun r51 X1 h1 H locs hq hR hS => ?_)
    obtain ⟨e1, e2, hw⟩ := hq
    rw [e1, e2] at hR
    refine lv_iadd hx hb dX6_page_109 ?_
    refine lv_istore (lv' := [(6, .int (((1 : Int32) + r50) + r51)), (5, .int s0), (0, .ref (ad 1000)), (1, .int p1), (2, .int p2), (3, .int p3), (4, .int p4)]) hx hb dX6_page_110 hl (by decide) rfl (fun ls hl => ?_)
    refine lv_aload_n hx hb dX6_page_112 rfl (lv_at hl 2 rfl) ?_
    refine lv_aload_n hx hb dX6_page_113 rfl (lv_at hl 2 rfl) ?_
    refine lv_aload_n hx hb dX6_page_114 rfl (lv_at hl 2 rfl) ?_
    refine x_get (ci := 5) (Cn := RX6) (T := TX6) (N := 55) (v := .ref (ad 46)) C (hR.rdX 0 rfl) rfl in_X6 46 (by decide) q1225 (fun _ h9 => h9) rfl dX6_page_115 ?_
    refine lv_iconst (v := 0) hx hb dX6_page_118 (by decide) ?_
    refine lv_iload hx hb dX6_page_119 (lv_at hl 0 rfl) ?_
    refine x_calli0 (x_runV (n := 3) (As := [.ref (ad 46), .int 0, .int (((1 : Int32) + r50) + r51)]) C hR hS (kX6_pageOf l D N0 gp ad XF _ 0 (((1 : Int32) + r50) + r51) 46 20 21 F49 M49 _ (fun _ _ => rfl) hw) (lw_V q1379 q1381 qs44 q104 q1382) rfl rfl (by decide +kernel) ⟨Nat.le_of_ble_eq_true rfl, Nat.le_of_ble_eq_true rfl⟩ (x_recv C (hR.rdX 0 rfl) rfl) rfl hl.1 rfl (Nat.le_of_ble_eq_true rfl) dX6_page_121 ⟨Nat.le_refl _, Nat.le_refl _⟩) hS (fun r52 X1 h1 H locs hq hR hS => ?_)
    obtain ⟨e1, e2, hw⟩ := hq
    rw [e1, e2] at hR
    refine lv_iconst (v := -1) hx hb dX6_page_124 (by decide) ?_
    refine lv_icmp_eq (tgt := 132) hx hb dX6_page_125 (by decide) (fun c53 => ?_) (fun c53 => ?_)
    · have hw := hw.1 c53
      refine lv_aload_n hx hb dX6_page_132 rfl (lv_at hl 2 rfl) ?_
      refine x_get (ci := 5) (Cn := RX6) (T := TX6) (N := 55) (v := .int (F49 1)) C (hR.rdX 0 rfl) rfl in_X6 1 (by decide) q1180 (fun _ h9 => h9) rfl dX6_page_133 ?_
      refine lv_bipush (v := 8) hx hb dX6_page_136 (by decide) ?_
      refine lv_icmp_ne (tgt := 145) hx hb dX6_page_138 (by decide) (fun c54 => ?_) (fun c54 => ?_)
      · have hw := hw.2 c54
        refine lv_iconst (v := 0) hx hb dX6_page_145 (by decide) ?_
        exact kX6_page_b146 C hR hS (lv_sub hl [2, 5, 6, 0] rfl) hw
      · have hw := hw.1 c54
        refine lv_iconst (v := 2) hx hb dX6_page_141 (by decide) ?_
        refine lv_goto (tgt := 146) hx hb dX6_page_142 (by decide) ?_
        exact kX6_page_b146 C hR hS (lv_sub hl [2, 5, 6, 0] rfl) hw
    · have hw := hw.2 c53
      refine lv_iconst (v := 1) hx hb dX6_page_128 (by decide) ?_
      refine lv_goto (tgt := 146) hx hb dX6_page_129 (by decide) ?_
      exact kX6_page_b146 C hR hS (lv_sub hl [2, 5, 6, 0] rfl) hw
  · have hw := hw.1 c46
    refine lv_aload_n hx hb dX6_page_68 rfl (lv_at hl 1 rfl) ?_
    refine lv_iconst (v := 1) hx hb dX6_page_69 (by decide) ?_
    refine x_calli0 (x_runV (n := 1) (As := [.int 1]) C hR hS (kX6_refuse l D N0 gp ad XF _ 1 F M _ hw) (lw_V q1371 q1373 qs42 q104 q1374) rfl rfl (by decide +kernel) ⟨Nat.le_of_ble_eq_true rfl, Nat.le_of_ble_eq_true rfl⟩ (x_recv C (hR.rdX 0 rfl) rfl) rfl hl.1 rfl (Nat.le_of_ble_eq_true rfl) dX6_page_70 ⟨Nat.le_refl _, Nat.le_refl _⟩) hS (fun r55 X1 h1 H locs hq hR hS => ?_)
    obtain ⟨F56, M56, e1, e2, hw⟩ := hq
    rw [e1, e2] at hR
    exact x_endi C hR hS ⟨_, rfl, ⟨_, _, rfl, rfl, hw⟩⟩ (Nat.le_refl _) (Nat.le_refl _) dX6_page_73
def wX6_page_b60 (post : Int32 → (Nat → Int32) → (Nat → Nat → Int32) → Prop) (p1 : Int32) (p2 : Int32) (p3 : Int32) (p4 : Int32) (F : (Nat → Int32)) (M : (Nat → Nat → Int32)) : Prop :=
  wX6_page_b61 post p1 p2 p3 p4 F M 0
theorem kX6_page_b60 {post : Int32 → (Nat → Int32) → (Nat → Nat → Int32) → Prop} {p1 : Int32} {p2 : Int32} {p3 : Int32} {p4 : Int32} (C : x_C p s m args meth c cX6_page 8 (some .int) RX6 D N0 gp) {F : (Nat → Int32)} {M : (Nat → Nat → Int32)} {H : Heap} {locs : List Loc} {ls : Array Slot} (hR : x_R D s N0 (fixM ad F M ++ XF) h H) (hS : va_S (x_A N0) s.heap H locs) (hl : lv_has ls 8 [(0, .ref (ad 1000)), (1, .int p1), (2, .int p2), (3, .int p3), (4, .int p4)]) (hw : wX6_page_b60 post p1 p2 p3 p4 F M) : W p l e rmX6_page s m args below meth c H locs 0 0 (MQ below (x_Qc D N0 (x_Vi (qMi ad XF h post))) args s 0 0 (x_A N0)) (F0 m 60 ls []) := by
  obtain ⟨⟨hx, hb, hml, hown, hts⟩, hr, hlocks, hG, hN⟩ := id C
  unfold wX6_page_b60 at hw
  refine lv_iconst (v := 0) hx hb dX6_page_60 (by decide) ?_
  exact kX6_page_b61 C hR hS (lv_sub hl [0, 1, 2, 3, 4] rfl) hw
def wX6_page_b34 (post : Int32 → (Nat → Int32) → (Nat → Nat → Int32) → Prop) (p1 : Int32) (p2 : Int32) (p3 : Int32) (p4 : Int32) (F : (Nat → Int32)) (M : (Nat → Nat → Int32)) : Prop :=
  wX6_outside (fun r42 => (r42 = 0 → wX6_outside (fun r44 => (r44 = 0 → wX6_page_b61 post p1 p2 p3 p4 F M 1) ∧ (¬ r44 = 0 → wX6_page_b60 post p1 p2 p3 p4 F M)) p4 0 255) ∧ (¬ r42 = 0 → wX6_page_b60 post p1 p2 p3 p4 F M)) p3 0 60
theorem kX6_page_b34 {post : Int32 → (Nat → Int32) → (Nat → Nat → Int32) → Prop} {p1 : Int32} {p2 : Int32} {p3 : Int32} {p4 : Int32} (C : x_C p s m args meth c cX6_page 8 (some .int) RX6 D N0 gp) {F : (Nat → Int32)} {M : (Nat → Nat → Int32)} {H : Heap} {locs : List Loc} {ls : Array Slot} (hR : x_R D s N0 (fixM ad F M ++ XF) h H) (hS : va_S (x_A N0) s.heap H locs) (hl : lv_has ls 8 [(0, .ref (ad 1000)), (1, .int p1), (2, .int p2), (3, .int p3), (4, .int p4)]) (hw : wX6_page_b34 post p1 p2 p3 p4 F M) : W p l e rmX6_page s m args below meth c H locs 0 0 (MQ below (x_Qc D N0 (x_Vi (qMi ad XF h post))) args s 0 0 (x_A N0)) (F0 m 34 ls []) := by
  obtain ⟨⟨hx, hb, hml, hown, hts⟩, hr, hlocks, hG, hN⟩ := id C
  unfold wX6_page_b34 at hw
  refine lv_iload_n hx hb dX6_page_34 rfl (lv_at hl 3 rfl) ?_
  refine lv_iconst (v := 0) hx hb dX6_page_35 (by decide) ?_
  refine lv_bipush (v := 60) hx hb dX6_page_36 (by decide) ?_
  refine x_calli0 (x_runS (n := 3) (As := [.int p3, .int 0, .int 60]) C hR hS (kX6_outside l D N0 gp _ _ p3 0 60 _ hw) (lw_S q1368 q1369 q104 q1370) rfl rfl (by decide +kernel) ⟨Nat.le_of_ble_eq_true rfl, Nat.le_of_ble_eq_true rfl⟩ rfl hl.1 rfl (Nat.le_of_ble_eq_true rfl) dX6_page_38 ⟨Nat.le_refl _, Nat.le_refl _⟩) hS (fun r42 X1 h1 H locs hq hR hS => ?_)
  obtain ⟨e1, e2, hw⟩ := hq
  rw [e1, e2] at hR
  refine lv_if_ne (tgt := 60) hx hb dX6_page_41 (by decide) (fun c43 => ?_) (fun c43 => ?_)
  · have hw := hw.2 c43
    exact kX6_page_b60 C hR hS (lv_sub hl [0, 1, 2, 3, 4] rfl) hw
  · have hw := hw.1 c43
    refine lv_iload hx hb dX6_page_44 (lv_at hl 4 rfl) ?_
    refine lv_iconst (v := 0) hx hb dX6_page_46 (by decide) ?_
    refine lv_sipush (v := 255) hx hb dX6_page_47 (by decide) ?_
    refine x_calli0 (x_runS (n := 3) (As := [.int p4, .int 0, .int 255]) C hR hS (kX6_outside l D N0 gp _ _ p4 0 255 _ hw) (lw_S q1368 q1369 q104 q1370) rfl rfl (by decide +kernel) ⟨Nat.le_of_ble_eq_true rfl, Nat.le_of_ble_eq_true rfl⟩ rfl hl.1 rfl (Nat.le_of_ble_eq_true rfl) dX6_page_50 ⟨Nat.le_refl _, Nat.le_refl _⟩) hS (fun r44 X1 h1 H locs hq hR hS => ?_)
    obtain ⟨e1, e2, hw⟩ := hq
    rw [e1, e2] at hR
    refine lv_if_ne (tgt := 60) hx hb dX6_page_53 (by decide) (fun c45 => ?_) (fun c45 => ?_)
    · have hw := hw.2 c45
      exact kX6_page_b60 C hR hS (lv_sub hl [0, 1, 2, 3, 4] rfl) hw
    · have hw := hw.1 c45
      refine lv_iconst (v := 1) hx hb dX6_page_56 (by decide) ?_
      refine lv_goto (tgt := 61) hx hb dX6_page_57 (by decide) ?_
      exact kX6_page_b61 C hR hS (lv_sub hl [0, 1, 2, 3, 4] rfl) hw
end
def wX6_page (post : Int32 → (Nat → Int32) → (Nat → Nat → Int32) → Prop) (p1 : Int32) (p2 : Int32) (p3 : Int32) (p4 : Int32) (F : (Nat → Int32)) (M : (Nat → Nat → Int32)) : Prop :=
  wX6_isText (fun r33 => (r33 = 0 → wX6_page_b60 post p1 p2 p3 p4 F M) ∧ (¬ r33 = 0 → wX6_isText (fun r35 => (r35 = 0 → wX6_page_b60 post p1 p2 p3 p4 F M) ∧ (¬ r35 = 0 → wX6_letters (fun r37 => ((4 : Int32) ≤ r37 → wX6_page_b60 post p1 p2 p3 p4 F M) ∧ (¬ (4 : Int32) ≤ r37 → (p2 = 0 → wX6_page_b34 post p1 p2 p3 p4 F M) ∧ (¬ p2 = 0 → wX6_letters (fun r40 => (r40 = 4 → wX6_page_b34 post p1 p2 p3 p4 F M) ∧ (¬ r40 = 4 → wX6_page_b60 post p1 p2 p3 p4 F M)) p1))) p2)) p2)) p1
theorem kX6_page (l : Launch) (D : va_G) (N0 : Nat) (gp : Nat → Nat) (ad : Nat → Nat) (XF : x_X) (h : x_H) (p1 : Int32) (p2 : Int32) (p3 : Int32) (p4 : Int32) (F : (Nat → Int32)) (M : (Nat → Nat → Int32)) (post : Int32 → (Nat → Int32) → (Nat → Nat → Int32) → Prop) (hw : wX6_page post p1 p2 p3 p4 F M) : Met l yX6_page (ws_ yX6_page cX6_page 8 (some .int)) rmX6_page (x_Pc D N0 gp (fixM ad F M ++ XF) h [.ref (ad 1000), .int p1, .int p2, .int p3, .int p4]) (x_Qc D N0 (x_Vi (qMi ad XF h post))) 0 0 (x_A N0) := by
  refine x_start (lv := [(0, .ref (ad 1000)), (1, .int p1), (2, .int p2), (3, .int p3), (4, .int p4)]) (by decide) rfl (Nat.le_of_ble_eq_true rfl) rfl ?_
  intro p e s m below meth c C hR ls hl
  have hS : va_S (x_A N0) s.heap s.heap [] := va_S.rf
  obtain ⟨⟨hx, hb, hml, hown, hts⟩, hr, hlocks, hG, hN⟩ := id C
  unfold wX6_page at hw
  refine lv_iload_n hx hb dX6_page_0 rfl (lv_at hl 1 rfl) ?_
  refine x_calli0 (x_runS (n := 1) (As := [.int p1]) C hR hS (kX6_isText l D N0 gp _ _ p1 _ hw) (lw_S q1356 q1357 q104 q1358) rfl rfl (by decide +kernel) ⟨Nat.le_of_ble_eq_true rfl, Nat.le_of_ble_eq_true rfl⟩ rfl hl.1 rfl (Nat.le_of_ble_eq_true rfl) dX6_page_1 ⟨Nat.le_refl _, Nat.le_refl _⟩) hS (fun r33 X1 h1 H locs hq hR hS => ?_)
  obtain ⟨e1, e2, hw⟩ := hq
  rw [e1, e2] at hR
  refine lv_if_eq (tgt := 60) hx hb dX6_page_4 (by decide) (fun c34 => ?_) (fun c34 => ?_)
  · have hw := hw.1 c34
    exact kX6_page_b60 C hR hS (lv_sub hl [0, 1, 2, 3, 4] rfl) hw
  · have hw := hw.2 c34
    refine lv_iload_n hx hb dX6_page_7 rfl (lv_at hl 2 rfl) ?_
    refine x_calli0 (x_runS (n := 1) (As := [.int p2]) C hR hS (kX6_isText l D N0 gp _ _ p2 _ hw) (lw_S q1356 q1357 q104 q1358) rfl rfl (by decide +kernel) ⟨Nat.le_of_ble_eq_true rfl, Nat.le_of_ble_eq_true rfl⟩ rfl hl.1 rfl (Nat.le_of_ble_eq_true rfl) dX6_page_8 ⟨Nat.le_refl _, Nat.le_refl _⟩) hS (fun r35 X1 h1 H locs hq hR hS => ?_)
    obtain ⟨e1, e2, hw⟩ := hq
    rw [e1, e2] at hR
    refine lv_if_eq (tgt := 60) hx hb dX6_page_11 (by decide) (fun c36 => ?_) (fun c36 => ?_)
    · have hw := hw.1 c36
      exact kX6_page_b60 C hR hS (lv_sub hl [0, 1, 2, 3, 4] rfl) hw
    · have hw := hw.2 c36
      refine lv_iload_n hx hb dX6_page_14 rfl (lv_at hl 2 rfl) ?_
      refine x_calli0 (x_runS (n := 1) (As := [.int p2]) C hR hS (kX6_letters l D N0 gp _ _ p2 _ hw) (lw_S q1365 q1366 q104 q1367) rfl rfl (by decide +kernel) ⟨Nat.le_of_ble_eq_true rfl, Nat.le_of_ble_eq_true rfl⟩ rfl hl.1 rfl (Nat.le_of_ble_eq_true rfl) dX6_page_15 ⟨Nat.le_refl _, Nat.le_refl _⟩) hS (fun r37 X1 h1 H locs hq hR hS => ?_)
      obtain ⟨e1, e2, hw⟩ := hq
      rw [e1, e2] at hR
      refine lv_iconst (v := 4) hx hb dX6_page_18 (by decide) ?_
      refine lv_icmp_ge (tgt := 60) hx hb dX6_page_19 (by decide) (fun c38 => ?_) (fun c38 => ?_)
      · have hw := hw.1 c38
        exact kX6_page_b60 C hR hS (lv_sub hl [0, 1, 2, 3, 4] rfl) hw
      · have hw := hw.2 c38
        refine lv_iload_n hx hb dX6_page_22 rfl (lv_at hl 2 rfl) ?_
        refine lv_if_eq (tgt := 34) hx hb dX6_page_23 (by decide) (fun c39 => ?_) (fun c39 => ?_)
        · have hw := hw.1 c39
          exact kX6_page_b34 C hR hS (lv_sub hl [0, 1, 2, 3, 4] rfl) hw
        · have hw := hw.2 c39
          refine lv_iload_n hx hb dX6_page_26 rfl (lv_at hl 1 rfl) ?_
          refine x_calli0 (x_runS (n := 1) (As := [.int p1]) C hR hS (kX6_letters l D N0 gp _ _ p1 _ hw) (lw_S q1365 q1366 q104 q1367) rfl rfl (by decide +kernel) ⟨Nat.le_of_ble_eq_true rfl, Nat.le_of_ble_eq_true rfl⟩ rfl hl.1 rfl (Nat.le_of_ble_eq_true rfl) dX6_page_27 ⟨Nat.le_refl _, Nat.le_refl _⟩) hS (fun r40 X1 h1 H locs hq hR hS => ?_)
          obtain ⟨e1, e2, hw⟩ := hq
          rw [e1, e2] at hR
          refine lv_iconst (v := 4) hx hb dX6_page_30 (by decide) ?_
          refine lv_icmp_ne (tgt := 60) hx hb dX6_page_31 (by decide) (fun c41 => ?_) (fun c41 => ?_)
          · have hw := hw.2 c41
            exact kX6_page_b60 C hR hS (lv_sub hl [0, 1, 2, 3, 4] rfl) hw
          · have hw := hw.1 c41
            exact kX6_page_b34 C hR hS (lv_sub hl [0, 1, 2, 3, 4] rfl) hw
/-- PageServerModel.prefaceByte()I -/
abbrev rmX6_prefaceByte : Room := { frames := 0, cells := 0, slots := 0, locals := 0 }
section
variable {p : Program} {l : Launch} {e : Env} {s : State} {m : MethodId} {args : Array Value} {below : List Frame} {meth : Method} {c : Code} {D : va_G} {N0 : Nat} {gp : Nat → Nat} {ad : Nat → Nat} {XF : x_X} {h : x_H}
def wX6_prefaceByte_b40 (post : Int32 → Prop) (F : (Nat → Int32)) (M : (Nat → Nat → Int32)) (s0 : Int32) : Prop :=
  post s0 
theorem kX6_prefaceByte_b40 {post : Int32 → Prop} {F : (Nat → Int32)} {M : (Nat → Nat → Int32)} (C : x_C p s m args meth c cX6_prefaceByte 1 (some .int) RX6 D N0 gp) {s0 : Int32} {H : Heap} {locs : List Loc} {ls : Array Slot} (hR : x_R D s N0 (fixM ad F M ++ XF) h H) (hS : va_S (x_A N0) s.heap H locs) (hl : lv_has ls 1 []) (hw : wX6_prefaceByte_b40 post F M s0) : W p l e rmX6_prefaceByte s m args below meth c H locs 0 0 (MQ below (x_Qc D N0 (x_Vi (qPi (fixM ad F M ++ XF) h post))) args s 0 0 (x_A N0)) (F0 m 40 ls [.int s0]) := by
  obtain ⟨⟨hx, hb, hml, hown, hts⟩, hr, hlocks, hG, hN⟩ := id C
  unfold wX6_prefaceByte_b40 at hw
  exact x_endi C hR hS ⟨_, rfl, ⟨rfl, rfl, hw⟩⟩ (Nat.le_refl _) (Nat.le_refl _) dX6_prefaceByte_40
end
def wX6_prefaceByte (post : Int32 → Prop) (F : (Nat → Int32)) (M : (Nat → Nat → Int32)) : Prop :=
  ((F 22) = 0 → wX6_prefaceByte_b40 post F M 80) ∧ (¬ (F 22) = 0 → ((F 22) = 1 → wX6_prefaceByte_b40 post F M 82) ∧ (¬ (F 22) = 1 → ((F 22) = 2 → wX6_prefaceByte_b40 post F M 73) ∧ (¬ (F 22) = 2 → wX6_prefaceByte_b40 post F M 10)))
theorem kX6_prefaceByte (l : Launch) (D : va_G) (N0 : Nat) (gp : Nat → Nat) (ad : Nat → Nat) (XF : x_X) (h : x_H) (F : (Nat → Int32)) (M : (Nat → Nat → Int32)) (post : Int32 → Prop) (hw : wX6_prefaceByte post F M ) : Met l yX6_prefaceByte (ws_ yX6_prefaceByte cX6_prefaceByte 1 (some .int)) rmX6_prefaceByte (x_Pc D N0 gp (fixM ad F M ++ XF) h [.ref (ad 1000)]) (x_Qc D N0 (x_Vi (qPi (fixM ad F M ++ XF) h post))) 0 0 (x_A N0) := by
  refine x_start (lv := [(0, .ref (ad 1000))]) (by decide) rfl (Nat.le_of_ble_eq_true rfl) rfl ?_
  intro p e s m below meth c C hR ls hl
  have hS : va_S (x_A N0) s.heap s.heap [] := va_S.rf
  obtain ⟨⟨hx, hb, hml, hown, hts⟩, hr, hlocks, hG, hN⟩ := id C
  unfold wX6_prefaceByte at hw
  refine lv_aload_n hx hb dX6_prefaceByte_0 rfl (lv_at hl 0 rfl) ?_
  refine x_get (ci := 5) (Cn := RX6) (T := TX6) (N := 55) (v := .int (F 22)) C (hR.rdX 0 rfl) rfl in_X6 22 (by decide) q1201 (fun _ h9 => h9) rfl dX6_prefaceByte_1 ?_
  refine lv_if_ne (tgt := 12) hx hb dX6_prefaceByte_4 (by decide) (fun c4 => ?_) (fun c4 => ?_)
  · have hw := hw.2 c4
    refine lv_aload_n hx hb dX6_prefaceByte_12 rfl (lv_at hl 0 rfl) ?_
    refine x_get (ci := 5) (Cn := RX6) (T := TX6) (N := 55) (v := .int (F 22)) C (hR.rdX 0 rfl) rfl in_X6 22 (by decide) q1201 (fun _ h9 => h9) rfl dX6_prefaceByte_13 ?_
    refine lv_iconst (v := 1) hx hb dX6_prefaceByte_16 (by decide) ?_
    refine lv_icmp_ne (tgt := 25) hx hb dX6_prefaceByte_17 (by decide) (fun c5 => ?_) (fun c5 => ?_)
    · have hw := hw.2 c5
      refine lv_aload_n hx hb dX6_prefaceByte_25 rfl (lv_at hl 0 rfl) ?_
      refine x_get (ci := 5) (Cn := RX6) (T := TX6) (N := 55) (v := .int (F 22)) C (hR.rdX 0 rfl) rfl in_X6 22 (by decide) q1201 (fun _ h9 => h9) rfl dX6_prefaceByte_26 ?_
      refine lv_iconst (v := 2) hx hb dX6_prefaceByte_29 (by decide) ?_
      refine lv_icmp_ne (tgt := 38) hx hb dX6_prefaceByte_30 (by decide) (fun c6 => ?_) (fun c6 => ?_)
      · have hw := hw.2 c6
        refine lv_bipush (v := 10) hx hb dX6_prefaceByte_38 (by decide) ?_
        exact kX6_prefaceByte_b40 C hR hS (lv_sub hl [] rfl) hw
      · have hw := hw.1 c6
        refine lv_bipush (v := 73) hx hb dX6_prefaceByte_33 (by decide) ?_
        refine lv_goto (tgt := 40) hx hb dX6_prefaceByte_35 (by decide) ?_
        exact kX6_prefaceByte_b40 C hR hS (lv_sub hl [] rfl) hw
    · have hw := hw.1 c5
      refine lv_bipush (v := 82) hx hb dX6_prefaceByte_20 (by decide) ?_
      refine lv_goto (tgt := 40) hx hb dX6_prefaceByte_22 (by decide) ?_
      exact kX6_prefaceByte_b40 C hR hS (lv_sub hl [] rfl) hw
  · have hw := hw.1 c4
    refine lv_bipush (v := 80) hx hb dX6_prefaceByte_7 (by decide) ?_
    refine lv_goto (tgt := 40) hx hb dX6_prefaceByte_9 (by decide) ?_
    exact kX6_prefaceByte_b40 C hR hS (lv_sub hl [] rfl) hw
/-- PageServerModel.goAway(I)V -/
abbrev rmX6_goAway : Room := { frames := 2, cells := 0, slots := 0, locals := 45 }
section
variable {p : Program} {l : Launch} {e : Env} {s : State} {m : MethodId} {args : Array Value} {below : List Frame} {meth : Method} {c : Code} {D : va_G} {N0 : Nat} {gp : Nat → Nat} {ad : Nat → Nat} {XF : x_X} {h : x_H}
end
def wX6_goAway (post : (Nat → Int32) → (Nat → Nat → Int32) → Prop) (p1 : Int32) (F : (Nat → Int32)) (M : (Nat → Nat → Int32)) : Prop :=
  wX6_head (fun F4 M4 => wX6_say (fun F5 M5 => wX6_say (fun F6 M6 => post (upd F6 48 p1) M6) p1 F5 M5) (F4 47) F4 M4) 2 7 0 0 F M
theorem kX6_goAway (l : Launch) (D : va_G) (N0 : Nat) (gp : Nat → Nat) (ad : Nat → Nat) (XF : x_X) (h : x_H) (p1 : Int32) (F : (Nat → Int32)) (M : (Nat → Nat → Int32)) (post : (Nat → Int32) → (Nat → Nat → Int32) → Prop) (hw : wX6_goAway post p1 F M) : Met l yX6_goAway (ws_ yX6_goAway cX6_goAway 2 none) rmX6_goAway (x_Pc D N0 gp (fixM ad F M ++ XF) h [.ref (ad 1000), .int p1]) (x_Qc D N0 (x_Vv (qMv ad XF h post))) 0 0 (x_A N0) := by
  refine x_start (lv := [(0, .ref (ad 1000)), (1, .int p1)]) (by decide) rfl (Nat.le_of_ble_eq_true rfl) rfl ?_
  intro p e s m below meth c C hR ls hl
  have hS : va_S (x_A N0) s.heap s.heap [] := va_S.rf
  obtain ⟨⟨hx, hb, hml, hown, hts⟩, hr, hlocks, hG, hN⟩ := id C
  unfold wX6_goAway at hw
  refine lv_aload_n hx hb dX6_goAway_0 rfl (lv_at hl 0 rfl) ?_
  refine lv_iconst (v := 2) hx hb dX6_goAway_1 (by decide) ?_
  refine lv_bipush (v := 7) hx hb dX6_goAway_2 (by decide) ?_
  refine lv_iconst (v := 0) hx hb dX6_goAway_4 (by decide) ?_
  refine lv_iconst (v := 0) hx hb dX6_goAway_5 (by decide) ?_
  refine x_callv0 (x_runV (n := 4) (As := [.int 2, .int 7, .int 0, .int 0]) C hR hS (kX6_head l D N0 gp ad XF _ 2 7 0 0 F M _ hw) (lw_V q1171 q1173 qs40 q104 q1174) rfl rfl (by decide +kernel) ⟨Nat.le_of_ble_eq_true rfl, Nat.le_of_ble_eq_true rfl⟩ (x_recv C (hR.rdX 0 rfl) rfl) rfl hl.1 rfl (Nat.le_of_ble_eq_true rfl) dX6_goAway_6 ⟨Nat.le_refl _, Nat.le_refl _⟩) hS (fun X1 h1 H locs hq hR hS => ?_)
  obtain ⟨F4, M4, e1, e2, hw⟩ := hq
  rw [e1, e2] at hR
  refine lv_aload_n hx hb dX6_goAway_9 rfl (lv_at hl 0 rfl) ?_
  refine lv_aload_n hx hb dX6_goAway_10 rfl (lv_at hl 0 rfl) ?_
  refine x_get (ci := 5) (Cn := RX6) (T := TX6) (N := 55) (v := .int (F4 47)) C (hR.rdX 0 rfl) rfl in_X6 47 (by decide) q1226 (fun _ h9 => h9) rfl dX6_goAway_11 ?_
  refine x_callv0 (x_runV (n := 1) (As := [.int (F4 47)]) C hR hS (kX6_say l D N0 gp ad XF _ (F4 47) F4 M4 _ hw) (lw_V q1175 q1177 qs41 q104 q1178) rfl rfl (by decide +kernel) ⟨Nat.le_of_ble_eq_true rfl, Nat.le_of_ble_eq_true rfl⟩ (x_recv C (hR.rdX 0 rfl) rfl) rfl hl.1 rfl (Nat.le_of_ble_eq_true rfl) dX6_goAway_14 ⟨Nat.le_refl _, Nat.le_refl _⟩) hS (fun X1 h1 H locs hq hR hS => ?_)
  obtain ⟨F5, M5, e1, e2, hw⟩ := hq
  rw [e1, e2] at hR
  refine lv_aload_n hx hb dX6_goAway_17 rfl (lv_at hl 0 rfl) ?_
  refine lv_iload_n hx hb dX6_goAway_18 rfl (lv_at hl 1 rfl) ?_
  refine x_callv0 (x_runV (n := 1) (As := [.int p1]) C hR hS (kX6_say l D N0 gp ad XF _ p1 F5 M5 _ hw) (lw_V q1175 q1177 qs41 q104 q1178) rfl rfl (by decide +kernel) ⟨Nat.le_of_ble_eq_true rfl, Nat.le_of_ble_eq_true rfl⟩ (x_recv C (hR.rdX 0 rfl) rfl) rfl hl.1 rfl (Nat.le_of_ble_eq_true rfl) dX6_goAway_19 ⟨Nat.le_refl _, Nat.le_refl _⟩) hS (fun X1 h1 H locs hq hR hS => ?_)
  obtain ⟨F6, M6, e1, e2, hw⟩ := hq
  rw [e1, e2] at hR
  refine lv_aload_n hx hb dX6_goAway_22 rfl (lv_at hl 0 rfl) ?_
  refine lv_iload_n hx hb dX6_goAway_23 rfl (lv_at hl 1 rfl) ?_
  refine x_putX (ci := 5) (Cn := RX6) (T := TX6) (N := 55) (v := .int p1) C hR hS 0 rfl rfl in_X6 tyX6_ok nmX6 48 (by decide) q1227 (fun _ h9 => h9) rfl rfl rfl (Nat.le_of_ble_eq_true rfl) (sM_f48 ..) dX6_goAway_24 (fun H locs hR hS => ?_)
  exact x_endv C hR hS ⟨rfl, ⟨_, _, rfl, rfl, hw⟩⟩ (Nat.le_refl _) (Nat.le_refl _) dX6_goAway_27
/-- PageServerModel.has(I)Z -/
abbrev rmX6_has : Room := { frames := 0, cells := 0, slots := 0, locals := 0 }
section
variable {p : Program} {l : Launch} {e : Env} {s : State} {m : MethodId} {args : Array Value} {below : List Frame} {meth : Method} {c : Code} {D : va_G} {N0 : Nat} {gp : Nat → Nat} {ad : Nat → Nat} {XF : x_X} {h : x_H}
def wX6_has_b14 (post : Int32 → Prop) (p1 : Int32) (F : (Nat → Int32)) (M : (Nat → Nat → Int32)) (s0 : Int32) : Prop :=
  narrow .boolean (.int s0) = .int s0 ∧ post s0 
theorem kX6_has_b14 {post : Int32 → Prop} {p1 : Int32} {F : (Nat → Int32)} {M : (Nat → Nat → Int32)} (C : x_C p s m args meth c cX6_has 2 (some .boolean) RX6 D N0 gp) {s0 : Int32} {H : Heap} {locs : List Loc} {ls : Array Slot} (hR : x_R D s N0 (fixM ad F M ++ XF) h H) (hS : va_S (x_A N0) s.heap H locs) (hl : lv_has ls 2 []) (hw : wX6_has_b14 post p1 F M s0) : W p l e rmX6_has s m args below meth c H locs 0 0 (MQ below (x_Qc D N0 (x_Vi (qPi (fixM ad F M ++ XF) h post))) args s 0 0 (x_A N0)) (F0 m 14 ls [.int s0]) := by
  obtain ⟨⟨hx, hb, hml, hown, hts⟩, hr, hlocks, hG, hN⟩ := id C
  unfold wX6_has_b14 at hw
  obtain ⟨hz, hw⟩ := hw
  exact x_endz C hR hS hz ⟨_, rfl, ⟨rfl, rfl, hw⟩⟩ (Nat.le_refl _) (Nat.le_refl _) dX6_has_14
end
def wX6_has (post : Int32 → Prop) (p1 : Int32) (F : (Nat → Int32)) (M : (Nat → Nat → Int32)) : Prop :=
  (((F 26) &&& p1) ≤ 0 → wX6_has_b14 post p1 F M 0) ∧ (¬ ((F 26) &&& p1) ≤ 0 → wX6_has_b14 post p1 F M 1)
theorem kX6_has (l : Launch) (D : va_G) (N0 : Nat) (gp : Nat → Nat) (ad : Nat → Nat) (XF : x_X) (h : x_H) (p1 : Int32) (F : (Nat → Int32)) (M : (Nat → Nat → Int32)) (post : Int32 → Prop) (hw : wX6_has post p1 F M ) : Met l yX6_has (ws_ yX6_has cX6_has 2 (some .boolean)) rmX6_has (x_Pc D N0 gp (fixM ad F M ++ XF) h [.ref (ad 1000), .int p1]) (x_Qc D N0 (x_Vi (qPi (fixM ad F M ++ XF) h post))) 0 0 (x_A N0) := by
  refine x_start (lv := [(0, .ref (ad 1000)), (1, .int p1)]) (by decide) rfl (Nat.le_of_ble_eq_true rfl) rfl ?_
  intro p e s m below meth c C hR ls hl
  have hS : va_S (x_A N0) s.heap s.heap [] := va_S.rf
  obtain ⟨⟨hx, hb, hml, hown, hts⟩, hr, hlocks, hG, hN⟩ := id C
  unfold wX6_has at hw
  refine lv_aload_n hx hb dX6_has_0 rfl (lv_at hl 0 rfl) ?_
  refine x_get (ci := 5) (Cn := RX6) (T := TX6) (N := 55) (v := .int (F 26)) C (hR.rdX 0 rfl) rfl in_X6 26 (by decide) q1205 (fun _ h9 => h9) rfl dX6_has_1 ?_
  refine lv_iload_n hx hb dX6_has_4 rfl (lv_at hl 1 rfl) ?_
  refine lv_iand hx hb dX6_has_5 ?_
  refine lv_if_le (tgt := 13) hx hb dX6_has_6 (by decide) (fun c2 => ?_) (fun c2 => ?_)
  · have hw := hw.1 c2
    refine lv_iconst (v := 0) hx hb dX6_has_13 (by decide) ?_
    exact kX6_has_b14 C hR hS (lv_sub hl [] rfl) hw
  · have hw := hw.2 c2
    refine lv_iconst (v := 1) hx hb dX6_has_9 (by decide) ?_
    refine lv_goto (tgt := 14) hx hb dX6_has_10 (by decide) ?_
    exact kX6_has_b14 C hR hS (lv_sub hl [] rfl) hw
/-- PageServerModel.idle(I)Z -/
abbrev rmX6_idle : Room := { frames := 0, cells := 0, slots := 0, locals := 0 }
section
variable {p : Program} {l : Launch} {e : Env} {s : State} {m : MethodId} {args : Array Value} {below : List Frame} {meth : Method} {c : Code} {D : va_G} {N0 : Nat} {gp : Nat → Nat} {ad : Nat → Nat} {XF : x_X} {h : x_H}
def wX6_idle_b23 (post : Int32 → Prop) (p1 : Int32) (F : (Nat → Int32)) (M : (Nat → Nat → Int32)) (s0 : Int32) : Prop :=
  narrow .boolean (.int s0) = .int s0 ∧ post s0 
theorem kX6_idle_b23 {post : Int32 → Prop} {p1 : Int32} {F : (Nat → Int32)} {M : (Nat → Nat → Int32)} (C : x_C p s m args meth c cX6_idle 2 (some .boolean) RX6 D N0 gp) {s0 : Int32} {H : Heap} {locs : List Loc} {ls : Array Slot} (hR : x_R D s N0 (fixM ad F M ++ XF) h H) (hS : va_S (x_A N0) s.heap H locs) (hl : lv_has ls 2 []) (hw : wX6_idle_b23 post p1 F M s0) : W p l e rmX6_idle s m args below meth c H locs 0 0 (MQ below (x_Qc D N0 (x_Vi (qPi (fixM ad F M ++ XF) h post))) args s 0 0 (x_A N0)) (F0 m 23 ls [.int s0]) := by
  obtain ⟨⟨hx, hb, hml, hown, hts⟩, hr, hlocks, hG, hN⟩ := id C
  unfold wX6_idle_b23 at hw
  obtain ⟨hz, hw⟩ := hw
  exact x_endz C hR hS hz ⟨_, rfl, ⟨rfl, rfl, hw⟩⟩ (Nat.le_refl _) (Nat.le_refl _) dX6_idle_23
def wX6_idle_b18 (post : Int32 → Prop) (p1 : Int32) (F : (Nat → Int32)) (M : (Nat → Nat → Int32)) : Prop :=
  wX6_idle_b23 post p1 F M 1
theorem kX6_idle_b18 {post : Int32 → Prop} {p1 : Int32} {F : (Nat → Int32)} {M : (Nat → Nat → Int32)} (C : x_C p s m args meth c cX6_idle 2 (some .boolean) RX6 D N0 gp) {H : Heap} {locs : List Loc} {ls : Array Slot} (hR : x_R D s N0 (fixM ad F M ++ XF) h H) (hS : va_S (x_A N0) s.heap H locs) (hl : lv_has ls 2 []) (hw : wX6_idle_b18 post p1 F M ) : W p l e rmX6_idle s m args below meth c H locs 0 0 (MQ below (x_Qc D N0 (x_Vi (qPi (fixM ad F M ++ XF) h post))) args s 0 0 (x_A N0)) (F0 m 18 ls []) := by
  obtain ⟨⟨hx, hb, hml, hown, hts⟩, hr, hlocks, hG, hN⟩ := id C
  unfold wX6_idle_b18 at hw
  refine lv_iconst (v := 1) hx hb dX6_idle_18 (by decide) ?_
  refine lv_goto (tgt := 23) hx hb dX6_idle_19 (by decide) ?_
  exact kX6_idle_b23 C hR hS (lv_sub hl [] rfl) hw
def wX6_idle_b22 (post : Int32 → Prop) (p1 : Int32) (F : (Nat → Int32)) (M : (Nat → Nat → Int32)) : Prop :=
  wX6_idle_b23 post p1 F M 0
theorem kX6_idle_b22 {post : Int32 → Prop} {p1 : Int32} {F : (Nat → Int32)} {M : (Nat → Nat → Int32)} (C : x_C p s m args meth c cX6_idle 2 (some .boolean) RX6 D N0 gp) {H : Heap} {locs : List Loc} {ls : Array Slot} (hR : x_R D s N0 (fixM ad F M ++ XF) h H) (hS : va_S (x_A N0) s.heap H locs) (hl : lv_has ls 2 []) (hw : wX6_idle_b22 post p1 F M ) : W p l e rmX6_idle s m args below meth c H locs 0 0 (MQ below (x_Qc D N0 (x_Vi (qPi (fixM ad F M ++ XF) h post))) args s 0 0 (x_A N0)) (F0 m 22 ls []) := by
  obtain ⟨⟨hx, hb, hml, hown, hts⟩, hr, hlocks, hG, hN⟩ := id C
  unfold wX6_idle_b22 at hw
  refine lv_iconst (v := 0) hx hb dX6_idle_22 (by decide) ?_
  exact kX6_idle_b23 C hR hS (lv_sub hl [] rfl) hw
end
def wX6_idle (post : Int32 → Prop) (p1 : Int32) (F : (Nat → Int32)) (M : (Nat → Nat → Int32)) : Prop :=
  ((F 47) < p1 → wX6_idle_b18 post p1 F M ) ∧ (¬ (F 47) < p1 → (p1 ≤ 0 → wX6_idle_b22 post p1 F M ) ∧ (¬ p1 ≤ 0 → ((p1 - p1 / 2 * 2) = 0 → wX6_idle_b18 post p1 F M ) ∧ (¬ (p1 - p1 / 2 * 2) = 0 → wX6_idle_b22 post p1 F M )))
theorem kX6_idle (l : Launch) (D : va_G) (N0 : Nat) (gp : Nat → Nat) (ad : Nat → Nat) (XF : x_X) (h : x_H) (p1 : Int32) (F : (Nat → Int32)) (M : (Nat → Nat → Int32)) (post : Int32 → Prop) (hw : wX6_idle post p1 F M ) : Met l yX6_idle (ws_ yX6_idle cX6_idle 2 (some .boolean)) rmX6_idle (x_Pc D N0 gp (fixM ad F M ++ XF) h [.ref (ad 1000), .int p1]) (x_Qc D N0 (x_Vi (qPi (fixM ad F M ++ XF) h post))) 0 0 (x_A N0) := by
  refine x_start (lv := [(0, .ref (ad 1000)), (1, .int p1)]) (by decide) rfl (Nat.le_of_ble_eq_true rfl) rfl ?_
  intro p e s m below meth c C hR ls hl
  have hS : va_S (x_A N0) s.heap s.heap [] := va_S.rf
  obtain ⟨⟨hx, hb, hml, hown, hts⟩, hr, hlocks, hG, hN⟩ := id C
  unfold wX6_idle at hw
  refine lv_iload_n hx hb dX6_idle_0 rfl (lv_at hl 1 rfl) ?_
  refine lv_aload_n hx hb dX6_idle_1 rfl (lv_at hl 0 rfl) ?_
  refine x_get (ci := 5) (Cn := RX6) (T := TX6) (N := 55) (v := .int (F 47)) C (hR.rdX 0 rfl) rfl in_X6 47 (by decide) q1226 (fun _ h9 => h9) rfl dX6_idle_2 ?_
  refine lv_icmp_gt (tgt := 18) hx hb dX6_idle_5 (by decide) (fun c4 => ?_) (fun c4 => ?_)
  · have hw := hw.1 c4
    exact kX6_idle_b18 C hR hS (lv_sub hl [] rfl) hw
  · have hw := hw.2 c4
    refine lv_iload_n hx hb dX6_idle_8 rfl (lv_at hl 1 rfl) ?_
    refine lv_if_le (tgt := 22) hx hb dX6_idle_9 (by decide) (fun c5 => ?_) (fun c5 => ?_)
    · have hw := hw.1 c5
      exact kX6_idle_b22 C hR hS (lv_sub hl [] rfl) hw
    · have hw := hw.2 c5
      refine lv_iload_n hx hb dX6_idle_12 rfl (lv_at hl 1 rfl) ?_
      refine lv_iconst (v := 2) hx hb dX6_idle_13 (by decide) ?_
      refine lv_irem hx hb dX6_idle_14 (by decide) ?_
      refine lv_if_ne (tgt := 22) hx hb dX6_idle_15 (by decide) (fun c6 => ?_) (fun c6 => ?_)
      · have hw := hw.2 c6
        exact kX6_idle_b22 C hR hS (lv_sub hl [] rfl) hw
      · have hw := hw.1 c6
        exact kX6_idle_b18 C hR hS (lv_sub hl [] rfl) hw
/-- PageServerModel.unpad()Z -/
abbrev rmX6_unpad : Room := { frames := 1, cells := 0, slots := 0, locals := 21 }
section
variable {p : Program} {l : Launch} {e : Env} {s : State} {m : MethodId} {args : Array Value} {below : List Frame} {meth : Method} {c : Code} {D : va_G} {N0 : Nat} {gp : Nat → Nat} {ad : Nat → Nat} {XF : x_X} {h : x_H}
def wX6_unpad_b77 (post : Int32 → (Nat → Int32) → (Nat → Nat → Int32) → Prop)  (F : (Nat → Int32)) (M : (Nat → Nat → Int32)) (x2 : Int32) (s0 : Int32) : Prop :=
  narrow .boolean (.int x2) = .int x2 ∧ post x2 (upd F 30 s0) M
theorem kX6_unpad_b77 {post : Int32 → (Nat → Int32) → (Nat → Nat → Int32) → Prop} (C : x_C p s m args meth c cX6_unpad 3 (some .boolean) RX6 D N0 gp) {F : (Nat → Int32)} {M : (Nat → Nat → Int32)} {x2 : Int32} {s0 : Int32} {H : Heap} {locs : List Loc} {ls : Array Slot} (hR : x_R D s N0 (fixM ad F M ++ XF) h H) (hS : va_S (x_A N0) s.heap H locs) (hl : lv_has ls 3 [(2, .int x2)]) (hw : wX6_unpad_b77 post F M x2 s0) : W p l e rmX6_unpad s m args below meth c H locs 0 0 (MQ below (x_Qc D N0 (x_Vi (qMi ad XF h post))) args s 0 0 (x_A N0)) (F0 m 77 ls [.int s0, .ref (ad 1000)]) := by
  obtain ⟨⟨hx, hb, hml, hown, hts⟩, hr, hlocks, hG, hN⟩ := id C
  unfold wX6_unpad_b77 at hw
  refine x_putX (ci := 5) (Cn := RX6) (T := TX6) (N := 55) (v := .int s0) C hR hS 0 rfl rfl in_X6 tyX6_ok nmX6 30 (by decide) q1209 (fun _ h9 => h9) rfl rfl rfl (Nat.le_of_ble_eq_true rfl) (sM_f30 ..) dX6_unpad_77 (fun H locs hR hS => ?_)
  refine lv_iload_n hx hb dX6_unpad_80 rfl (lv_at hl 0 rfl) ?_
  obtain ⟨hz, hw⟩ := hw
  exact x_endz C hR hS hz ⟨_, rfl, ⟨_, _, rfl, rfl, hw⟩⟩ (Nat.le_refl _) (Nat.le_refl _) dX6_unpad_81
def wX6_unpad_b73 (post : Int32 → (Nat → Int32) → (Nat → Nat → Int32) → Prop)  (F : (Nat → Int32)) (M : (Nat → Nat → Int32)) (x2 : Int32) : Prop :=
  wX6_unpad_b77 post F M x2 (F 28)
theorem kX6_unpad_b73 {post : Int32 → (Nat → Int32) → (Nat → Nat → Int32) → Prop} (C : x_C p s m args meth c cX6_unpad 3 (some .boolean) RX6 D N0 gp) {F : (Nat → Int32)} {M : (Nat → Nat → Int32)} {x2 : Int32} {H : Heap} {locs : List Loc} {ls : Array Slot} (hR : x_R D s N0 (fixM ad F M ++ XF) h H) (hS : va_S (x_A N0) s.heap H locs) (hl : lv_has ls 3 [(0, .ref (ad 1000)), (2, .int x2)]) (hw : wX6_unpad_b73 post F M x2) : W p l e rmX6_unpad s m args below meth c H locs 0 0 (MQ below (x_Qc D N0 (x_Vi (qMi ad XF h post))) args s 0 0 (x_A N0)) (F0 m 73 ls [.ref (ad 1000)]) := by
  obtain ⟨⟨hx, hb, hml, hown, hts⟩, hr, hlocks, hG, hN⟩ := id C
  unfold wX6_unpad_b73 at hw
  refine lv_aload_n hx hb dX6_unpad_73 rfl (lv_at hl 0 rfl) ?_
  refine x_get (ci := 5) (Cn := RX6) (T := TX6) (N := 55) (v := .int (F 28)) C (hR.rdX 0 rfl) rfl in_X6 28 (by decide) q1207 (fun _ h9 => h9) rfl dX6_unpad_74 ?_
  exact kX6_unpad_b77 C hR hS (lv_sub hl [1] rfl) hw
def wX6_unpad_b47 (post : Int32 → (Nat → Int32) → (Nat → Nat → Int32) → Prop)  (F : (Nat → Int32)) (M : (Nat → Nat → Int32)) (x1 : Int32) (x2 : Int32) (s0 : Int32) : Prop :=
  (x1 = 0 → wX6_unpad_b73 post (upd F 29 s0) M x2) ∧ (¬ x1 = 0 → (x2 = 0 → wX6_unpad_b73 post (upd F 29 s0) M x2) ∧ (¬ x2 = 0 → wX6_unpad_b77 post (upd F 29 s0) M x2 ((F 28) - ((M 24) ((4 : Int32).toNatClampNeg)))))
theorem kX6_unpad_b47 {post : Int32 → (Nat → Int32) → (Nat → Nat → Int32) → Prop} (C : x_C p s m args meth c cX6_unpad 3 (some .boolean) RX6 D N0 gp) {F : (Nat → Int32)} {M : (Nat → Nat → Int32)} {x1 : Int32} {x2 : Int32} {s0 : Int32} {H : Heap} {locs : List Loc} {ls : Array Slot} (hR : x_R D s N0 (fixM ad F M ++ XF) h H) (hS : va_S (x_A N0) s.heap H locs) (hl : lv_has ls 3 [(0, .ref (ad 1000)), (1, .int x1), (2, .int x2)]) (hw : wX6_unpad_b47 post F M x1 x2 s0) : W p l e rmX6_unpad s m args below meth c H locs 0 0 (MQ below (x_Qc D N0 (x_Vi (qMi ad XF h post))) args s 0 0 (x_A N0)) (F0 m 47 ls [.int s0, .ref (ad 1000)]) := by
  obtain ⟨⟨hx, hb, hml, hown, hts⟩, hr, hlocks, hG, hN⟩ := id C
  unfold wX6_unpad_b47 at hw
  refine x_putX (ci := 5) (Cn := RX6) (T := TX6) (N := 55) (v := .int s0) C hR hS 0 rfl rfl in_X6 tyX6_ok nmX6 29 (by decide) q1208 (fun _ h9 => h9) rfl rfl rfl (Nat.le_of_ble_eq_true rfl) (sM_f29 ..) dX6_unpad_47 (fun H locs hR hS => ?_)
  refine lv_aload_n hx hb dX6_unpad_50 rfl (lv_at hl 0 rfl) ?_
  refine lv_iload_n hx hb dX6_unpad_51 rfl (lv_at hl 1 rfl) ?_
  refine lv_if_eq (tgt := 73) hx hb dX6_unpad_52 (by decide) (fun c13 => ?_) (fun c13 => ?_)
  · have hw := hw.1 c13
    exact kX6_unpad_b73 C hR hS (lv_sub hl [0, 2] rfl) hw
  · have hw := hw.2 c13
    refine lv_iload_n hx hb dX6_unpad_55 rfl (lv_at hl 2 rfl) ?_
    refine lv_if_eq (tgt := 73) hx hb dX6_unpad_56 (by decide) (fun c14 => ?_) (fun c14 => ?_)
    · have hw := hw.1 c14
      exact kX6_unpad_b73 C hR hS (lv_sub hl [0, 2] rfl) hw
    · have hw := hw.2 c14
      refine lv_aload_n hx hb dX6_unpad_59 rfl (lv_at hl 0 rfl) ?_
      refine x_get (ci := 5) (Cn := RX6) (T := TX6) (N := 55) (v := .int (F 28)) C (hR.rdX 0 rfl) rfl in_X6 28 (by decide) q1207 (fun _ h9 => h9) rfl dX6_unpad_60 ?_
      refine lv_aload_n hx hb dX6_unpad_63 rfl (lv_at hl 0 rfl) ?_
      refine x_get (ci := 5) (Cn := RX6) (T := TX6) (N := 55) (v := .ref (ad 24)) C (hR.rdX 0 rfl) rfl in_X6 24 (by decide) q1203 (fun _ h9 => h9) rfl dX6_unpad_64 ?_
      refine lv_iconst (v := 4) hx hb dX6_unpad_67 (by decide) ?_
      refine x_iald (n := 204) (f := (M 24)) C (hR.rdX 19 rfl) (by unfold vp_in; decide) dX6_unpad_68 ?_
      refine lv_isub hx hb dX6_unpad_69 ?_
      refine lv_goto (tgt := 77) hx hb dX6_unpad_70 (by decide) ?_
      exact kX6_unpad_b77 C hR hS (lv_sub hl [2] rfl) hw
def wX6_unpad_b36 (post : Int32 → (Nat → Int32) → (Nat → Nat → Int32) → Prop)  (F : (Nat → Int32)) (M : (Nat → Nat → Int32)) (x1 : Int32) (s0 : Int32) : Prop :=
  (x1 = 0 → wX6_unpad_b47 post F M x1 s0 0) ∧ (¬ x1 = 0 → wX6_unpad_b47 post F M x1 s0 1)
theorem kX6_unpad_b36 {post : Int32 → (Nat → Int32) → (Nat → Nat → Int32) → Prop} (C : x_C p s m args meth c cX6_unpad 3 (some .boolean) RX6 D N0 gp) {F : (Nat → Int32)} {M : (Nat → Nat → Int32)} {x1 : Int32} {s0 : Int32} {H : Heap} {locs : List Loc} {ls : Array Slot} (hR : x_R D s N0 (fixM ad F M ++ XF) h H) (hS : va_S (x_A N0) s.heap H locs) (hl : lv_has ls 3 [(0, .ref (ad 1000)), (1, .int x1)]) (hw : wX6_unpad_b36 post F M x1 s0) : W p l e rmX6_unpad s m args below meth c H locs 0 0 (MQ below (x_Qc D N0 (x_Vi (qMi ad XF h post))) args s 0 0 (x_A N0)) (F0 m 36 ls [.int s0]) := by
  obtain ⟨⟨hx, hb, hml, hown, hts⟩, hr, hlocks, hG, hN⟩ := id C
  unfold wX6_unpad_b36 at hw
  refine lv_istore_n (lv' := [(2, .int s0), (0, .ref (ad 1000)), (1, .int x1)]) hx hb dX6_unpad_36 rfl hl (by decide) rfl (fun ls hl => ?_)
  refine lv_aload_n hx hb dX6_unpad_37 rfl (lv_at hl 1 rfl) ?_
  refine lv_iload_n hx hb dX6_unpad_38 rfl (lv_at hl 2 rfl) ?_
  refine lv_if_eq (tgt := 46) hx hb dX6_unpad_39 (by decide) (fun c12 => ?_) (fun c12 => ?_)
  · have hw := hw.1 c12
    refine lv_iconst (v := 0) hx hb dX6_unpad_46 (by decide) ?_
    exact kX6_unpad_b47 C hR hS (lv_sub hl [1, 2, 0] rfl) hw
  · have hw := hw.2 c12
    refine lv_iconst (v := 1) hx hb dX6_unpad_42 (by decide) ?_
    refine lv_goto (tgt := 47) hx hb dX6_unpad_43 (by decide) ?_
    exact kX6_unpad_b47 C hR hS (lv_sub hl [1, 2, 0] rfl) hw
def wX6_unpad_b31 (post : Int32 → (Nat → Int32) → (Nat → Nat → Int32) → Prop)  (F : (Nat → Int32)) (M : (Nat → Nat → Int32)) (x1 : Int32) : Prop :=
  wX6_unpad_b36 post F M x1 1
theorem kX6_unpad_b31 {post : Int32 → (Nat → Int32) → (Nat → Nat → Int32) → Prop} (C : x_C p s m args meth c cX6_unpad 3 (some .boolean) RX6 D N0 gp) {F : (Nat → Int32)} {M : (Nat → Nat → Int32)} {x1 : Int32} {H : Heap} {locs : List Loc} {ls : Array Slot} (hR : x_R D s N0 (fixM ad F M ++ XF) h H) (hS : va_S (x_A N0) s.heap H locs) (hl : lv_has ls 3 [(0, .ref (ad 1000)), (1, .int x1)]) (hw : wX6_unpad_b31 post F M x1) : W p l e rmX6_unpad s m args below meth c H locs 0 0 (MQ below (x_Qc D N0 (x_Vi (qMi ad XF h post))) args s 0 0 (x_A N0)) (F0 m 31 ls []) := by
  obtain ⟨⟨hx, hb, hml, hown, hts⟩, hr, hlocks, hG, hN⟩ := id C
  unfold wX6_unpad_b31 at hw
  refine lv_iconst (v := 1) hx hb dX6_unpad_31 (by decide) ?_
  refine lv_goto (tgt := 36) hx hb dX6_unpad_32 (by decide) ?_
  exact kX6_unpad_b36 C hR hS (lv_sub hl [0, 1] rfl) hw
def wX6_unpad_b35 (post : Int32 → (Nat → Int32) → (Nat → Nat → Int32) → Prop)  (F : (Nat → Int32)) (M : (Nat → Nat → Int32)) (x1 : Int32) : Prop :=
  wX6_unpad_b36 post F M x1 0
theorem kX6_unpad_b35 {post : Int32 → (Nat → Int32) → (Nat → Nat → Int32) → Prop} (C : x_C p s m args meth c cX6_unpad 3 (some .boolean) RX6 D N0 gp) {F : (Nat → Int32)} {M : (Nat → Nat → Int32)} {x1 : Int32} {H : Heap} {locs : List Loc} {ls : Array Slot} (hR : x_R D s N0 (fixM ad F M ++ XF) h H) (hS : va_S (x_A N0) s.heap H locs) (hl : lv_has ls 3 [(0, .ref (ad 1000)), (1, .int x1)]) (hw : wX6_unpad_b35 post F M x1) : W p l e rmX6_unpad s m args below meth c H locs 0 0 (MQ below (x_Qc D N0 (x_Vi (qMi ad XF h post))) args s 0 0 (x_A N0)) (F0 m 35 ls []) := by
  obtain ⟨⟨hx, hb, hml, hown, hts⟩, hr, hlocks, hG, hN⟩ := id C
  unfold wX6_unpad_b35 at hw
  refine lv_iconst (v := 0) hx hb dX6_unpad_35 (by decide) ?_
  exact kX6_unpad_b36 C hR hS (lv_sub hl [0, 1] rfl) hw
end
def wX6_unpad (post : Int32 → (Nat → Int32) → (Nat → Nat → Int32) → Prop)  (F : (Nat → Int32)) (M : (Nat → Nat → Int32)) : Prop :=
  wX6_has (fun r8 => (r8 = 0 → wX6_unpad_b31 post F M r8) ∧ (¬ r8 = 0 → ((F 28) ≤ 0 → wX6_unpad_b35 post F M r8) ∧ (¬ (F 28) ≤ 0 → ((F 28) ≤ ((M 24) ((4 : Int32).toNatClampNeg)) → wX6_unpad_b35 post F M r8) ∧ (¬ (F 28) ≤ ((M 24) ((4 : Int32).toNatClampNeg)) → wX6_unpad_b31 post F M r8)))) 8 F M
theorem kX6_unpad (l : Launch) (D : va_G) (N0 : Nat) (gp : Nat → Nat) (ad : Nat → Nat) (XF : x_X) (h : x_H)  (F : (Nat → Int32)) (M : (Nat → Nat → Int32)) (post : Int32 → (Nat → Int32) → (Nat → Nat → Int32) → Prop) (hw : wX6_unpad post  F M) : Met l yX6_unpad (ws_ yX6_unpad cX6_unpad 3 (some .boolean)) rmX6_unpad (x_Pc D N0 gp (fixM ad F M ++ XF) h [.ref (ad 1000)]) (x_Qc D N0 (x_Vi (qMi ad XF h post))) 0 0 (x_A N0) := by
  refine x_start (lv := [(0, .ref (ad 1000))]) (by decide) rfl (Nat.le_of_ble_eq_true rfl) rfl ?_
  intro p e s m below meth c C hR ls hl
  have hS : va_S (x_A N0) s.heap s.heap [] := va_S.rf
  obtain ⟨⟨hx, hb, hml, hown, hts⟩, hr, hlocks, hG, hN⟩ := id C
  unfold wX6_unpad at hw
  refine lv_aload_n hx hb dX6_unpad_0 rfl (lv_at hl 0 rfl) ?_
  refine lv_bipush (v := 8) hx hb dX6_unpad_1 (by decide) ?_
  refine x_calli0 (x_runV (n := 1) (As := [.int 8]) C hR hS (kX6_has l D N0 gp ad XF _ 8 F M _ hw) (lw_V q1407 q1409 qs50 q104 q1410) rfl rfl (by decide +kernel) ⟨Nat.le_of_ble_eq_true rfl, Nat.le_of_ble_eq_true rfl⟩ (x_recv C (hR.rdX 0 rfl) rfl) rfl hl.1 rfl (Nat.le_of_ble_eq_true rfl) dX6_unpad_3 ⟨Nat.le_refl _, Nat.le_refl _⟩) hS (fun r8 X1 h1 H locs hq hR hS => ?_)
  obtain ⟨e1, e2, hw⟩ := hq
  rw [e1, e2] at hR
  refine lv_istore_n (lv' := [(1, .int r8), (0, .ref (ad 1000))]) hx hb dX6_unpad_6 rfl hl (by decide) rfl (fun ls hl => ?_)
  refine lv_iload_n hx hb dX6_unpad_7 rfl (lv_at hl 0 rfl) ?_
  refine lv_if_eq (tgt := 31) hx hb dX6_unpad_8 (by decide) (fun c9 => ?_) (fun c9 => ?_)
  · have hw := hw.1 c9
    exact kX6_unpad_b31 C hR hS (lv_sub hl [1, 0] rfl) hw
  · have hw := hw.2 c9
    refine lv_aload_n hx hb dX6_unpad_11 rfl (lv_at hl 1 rfl) ?_
    refine x_get (ci := 5) (Cn := RX6) (T := TX6) (N := 55) (v := .int (F 28)) C (hR.rdX 0 rfl) rfl in_X6 28 (by decide) q1207 (fun _ h9 => h9) rfl dX6_unpad_12 ?_
    refine lv_if_le (tgt := 35) hx hb dX6_unpad_15 (by decide) (fun c10 => ?_) (fun c10 => ?_)
    · have hw := hw.1 c10
      exact kX6_unpad_b35 C hR hS (lv_sub hl [1, 0] rfl) hw
    · have hw := hw.2 c10
      refine lv_aload_n hx hb dX6_unpad_18 rfl (lv_at hl 1 rfl) ?_
      refine x_get (ci := 5) (Cn := RX6) (T := TX6) (N := 55) (v := .ref (ad 24)) C (hR.rdX 0 rfl) rfl in_X6 24 (by decide) q1203 (fun _ h9 => h9) rfl dX6_unpad_19 ?_
      refine lv_iconst (v := 4) hx hb dX6_unpad_22 (by decide) ?_
      refine x_iald (n := 204) (f := (M 24)) C (hR.rdX 19 rfl) (by unfold vp_in; decide) dX6_unpad_23 ?_
      refine lv_aload_n hx hb dX6_unpad_24 rfl (lv_at hl 1 rfl) ?_
      refine x_get (ci := 5) (Cn := RX6) (T := TX6) (N := 55) (v := .int (F 28)) C (hR.rdX 0 rfl) rfl in_X6 28 (by decide) q1207 (fun _ h9 => h9) rfl dX6_unpad_25 ?_
      refine lv_icmp_ge (tgt := 35) hx hb dX6_unpad_28 (by decide) (fun c11 => ?_) (fun c11 => ?_)
      · have hw := hw.1 c11
        exact kX6_unpad_b35 C hR hS (lv_sub hl [1, 0] rfl) hw
      · have hw := hw.2 c11
        exact kX6_unpad_b31 C hR hS (lv_sub hl [1, 0] rfl) hw
/-- PageServerModel.credit(II)V -/
abbrev rmX6_credit : Room := { frames := 2, cells := 0, slots := 0, locals := 45 }
section
variable {p : Program} {l : Launch} {e : Env} {s : State} {m : MethodId} {args : Array Value} {below : List Frame} {meth : Method} {c : Code} {D : va_G} {N0 : Nat} {gp : Nat → Nat} {ad : Nat → Nat} {XF : x_X} {h : x_H}
end
def wX6_credit (post : (Nat → Int32) → (Nat → Nat → Int32) → Prop) (p1 : Int32) (p2 : Int32) (F : (Nat → Int32)) (M : (Nat → Nat → Int32)) : Prop :=
  wX6_head (fun F4 M4 => wX6_say (fun F5 M5 => wX6_say (fun F6 M6 => post F6 M6) (p2 - p2 / 256 * 256) F5 M5) (p2 / 256) F4 M4) 2 8 0 p1 F M
theorem kX6_credit (l : Launch) (D : va_G) (N0 : Nat) (gp : Nat → Nat) (ad : Nat → Nat) (XF : x_X) (h : x_H) (p1 : Int32) (p2 : Int32) (F : (Nat → Int32)) (M : (Nat → Nat → Int32)) (post : (Nat → Int32) → (Nat → Nat → Int32) → Prop) (hw : wX6_credit post p1 p2 F M) : Met l yX6_credit (ws_ yX6_credit cX6_credit 3 none) rmX6_credit (x_Pc D N0 gp (fixM ad F M ++ XF) h [.ref (ad 1000), .int p1, .int p2]) (x_Qc D N0 (x_Vv (qMv ad XF h post))) 0 0 (x_A N0) := by
  refine x_start (lv := [(0, .ref (ad 1000)), (1, .int p1), (2, .int p2)]) (by decide) rfl (Nat.le_of_ble_eq_true rfl) rfl ?_
  intro p e s m below meth c C hR ls hl
  have hS : va_S (x_A N0) s.heap s.heap [] := va_S.rf
  obtain ⟨⟨hx, hb, hml, hown, hts⟩, hr, hlocks, hG, hN⟩ := id C
  unfold wX6_credit at hw
  refine lv_aload_n hx hb dX6_credit_0 rfl (lv_at hl 0 rfl) ?_
  refine lv_iconst (v := 2) hx hb dX6_credit_1 (by decide) ?_
  refine lv_bipush (v := 8) hx hb dX6_credit_2 (by decide) ?_
  refine lv_iconst (v := 0) hx hb dX6_credit_4 (by decide) ?_
  refine lv_iload_n hx hb dX6_credit_5 rfl (lv_at hl 1 rfl) ?_
  refine x_callv0 (x_runV (n := 4) (As := [.int 2, .int 8, .int 0, .int p1]) C hR hS (kX6_head l D N0 gp ad XF _ 2 8 0 p1 F M _ hw) (lw_V q1171 q1173 qs40 q104 q1174) rfl rfl (by decide +kernel) ⟨Nat.le_of_ble_eq_true rfl, Nat.le_of_ble_eq_true rfl⟩ (x_recv C (hR.rdX 0 rfl) rfl) rfl hl.1 rfl (Nat.le_of_ble_eq_true rfl) dX6_credit_6 ⟨Nat.le_refl _, Nat.le_refl _⟩) hS (fun X1 h1 H locs hq hR hS => ?_)
  obtain ⟨F4, M4, e1, e2, hw⟩ := hq
  rw [e1, e2] at hR
  refine lv_aload_n hx hb dX6_credit_9 rfl (lv_at hl 0 rfl) ?_
  refine lv_iload_n hx hb dX6_credit_10 rfl (lv_at hl 2 rfl) ?_
  refine lv_sipush (v := 256) hx hb dX6_credit_11 (by decide) ?_
  refine lv_idiv hx hb dX6_credit_14 (by decide) ?_
  refine x_callv0 (x_runV (n := 1) (As := [.int (p2 / 256)]) C hR hS (kX6_say l D N0 gp ad XF _ (p2 / 256) F4 M4 _ hw) (lw_V q1175 q1177 qs41 q104 q1178) rfl rfl (by decide +kernel) ⟨Nat.le_of_ble_eq_true rfl, Nat.le_of_ble_eq_true rfl⟩ (x_recv C (hR.rdX 0 rfl) rfl) rfl hl.1 rfl (Nat.le_of_ble_eq_true rfl) dX6_credit_15 ⟨Nat.le_refl _, Nat.le_refl _⟩) hS (fun X1 h1 H locs hq hR hS => ?_)
  obtain ⟨F5, M5, e1, e2, hw⟩ := hq
  rw [e1, e2] at hR
  refine lv_aload_n hx hb dX6_credit_18 rfl (lv_at hl 0 rfl) ?_
  refine lv_iload_n hx hb dX6_credit_19 rfl (lv_at hl 2 rfl) ?_
  refine lv_sipush (v := 256) hx hb dX6_credit_20 (by decide) ?_
  refine lv_irem hx hb dX6_credit_23 (by decide) ?_
  refine x_callv0 (x_runV (n := 1) (As := [.int (p2 - p2 / 256 * 256)]) C hR hS (kX6_say l D N0 gp ad XF _ (p2 - p2 / 256 * 256) F5 M5 _ hw) (lw_V q1175 q1177 qs41 q104 q1178) rfl rfl (by decide +kernel) ⟨Nat.le_of_ble_eq_true rfl, Nat.le_of_ble_eq_true rfl⟩ (x_recv C (hR.rdX 0 rfl) rfl) rfl hl.1 rfl (Nat.le_of_ble_eq_true rfl) dX6_credit_24 ⟨Nat.le_refl _, Nat.le_refl _⟩) hS (fun X1 h1 H locs hq hR hS => ?_)
  obtain ⟨F6, M6, e1, e2, hw⟩ := hq
  rw [e1, e2] at hR
  exact x_endv C hR hS ⟨rfl, ⟨_, _, rfl, rfl, hw⟩⟩ (Nat.le_refl _) (Nat.le_refl _) dX6_credit_27
/-- PageServerModel.slotOf(I)I -/
abbrev rmX6_slotOf : Room := { frames := 0, cells := 0, slots := 0, locals := 0 }
section
variable {p : Program} {l : Launch} {e : Env} {s : State} {m : MethodId} {args : Array Value} {below : List Frame} {meth : Method} {c : Code} {D : va_G} {N0 : Nat} {gp : Nat → Nat} {ad : Nat → Nat} {XF : x_X} {h : x_H}
def wX6_slotOf_b28 (post : Int32 → Prop) (K4 : Int32 → Int32 → Prop) (p1 : Int32) (F : (Nat → Int32)) (M : (Nat → Nat → Int32)) (x3 : Int32) (s0 : Int32) : Prop :=
  K4 s0 (x3 + 1)
theorem kX6_slotOf_b28 {post : Int32 → Prop} {K4 : Int32 → Int32 → Prop} {p1 : Int32} {F : (Nat → Int32)} {M : (Nat → Nat → Int32)} (C : x_C p s m args meth c cX6_slotOf 4 (some .int) RX6 D N0 gp) (hK4 : ∀ (x2 : Int32) (x3 : Int32) (H : Heap) (locs : List Loc) (ls : Array Slot), x_R D s N0 (fixM ad F M ++ XF) h H → va_S (x_A N0) s.heap H locs → lv_has ls 4 [(0, .ref (ad 1000)), (1, .int p1), (2, .int x2), (3, .int x3)] → K4 x2 x3 → W p l e rmX6_slotOf s m args below meth c H locs 0 0 (MQ below (x_Qc D N0 (x_Vi (qPi (fixM ad F M ++ XF) h post))) args s 0 0 (x_A N0)) (F0 m 4 ls [])) {x3 : Int32} {s0 : Int32} {H : Heap} {locs : List Loc} {ls : Array Slot} (hR : x_R D s N0 (fixM ad F M ++ XF) h H) (hS : va_S (x_A N0) s.heap H locs) (hl : lv_has ls 4 [(0, .ref (ad 1000)), (1, .int p1), (3, .int x3)]) (hw : wX6_slotOf_b28 post K4 p1 F M x3 s0) : W p l e rmX6_slotOf s m args below meth c H locs 0 0 (MQ below (x_Qc D N0 (x_Vi (qPi (fixM ad F M ++ XF) h post))) args s 0 0 (x_A N0)) (F0 m 28 ls [.int s0]) := by
  obtain ⟨⟨hx, hb, hml, hown, hts⟩, hr, hlocks, hG, hN⟩ := id C
  unfold wX6_slotOf_b28 at hw
  refine lv_istore_n (lv' := [(2, .int s0), (0, .ref (ad 1000)), (1, .int p1), (3, .int x3)]) hx hb dX6_slotOf_28 rfl hl (by decide) rfl (fun ls hl => ?_)
  refine lv_iinc (v := x3 + 1) (lv' := [(3, .int (x3 + 1)), (2, .int s0), (0, .ref (ad 1000)), (1, .int p1)]) hx hb dX6_slotOf_29 hl (k := 3) rfl (x_inc 1 1 (by decide)) (by decide) rfl (fun ls hl => ?_)
  refine lv_goto (tgt := 4) hx hb dX6_slotOf_32 (by decide) ?_
  exact hK4 _ _ _ _ _ hR hS (lv_sub hl [2, 3, 1, 0] rfl) hw
def wX6_slotOf_b27 (post : Int32 → Prop) (K4 : Int32 → Int32 → Prop) (p1 : Int32) (F : (Nat → Int32)) (M : (Nat → Nat → Int32)) (x2 : Int32) (x3 : Int32) : Prop :=
  wX6_slotOf_b28 post K4 p1 F M x3 x2
theorem kX6_slotOf_b27 {post : Int32 → Prop} {K4 : Int32 → Int32 → Prop} {p1 : Int32} {F : (Nat → Int32)} {M : (Nat → Nat → Int32)} (C : x_C p s m args meth c cX6_slotOf 4 (some .int) RX6 D N0 gp) (hK4 : ∀ (x2 : Int32) (x3 : Int32) (H : Heap) (locs : List Loc) (ls : Array Slot), x_R D s N0 (fixM ad F M ++ XF) h H → va_S (x_A N0) s.heap H locs → lv_has ls 4 [(0, .ref (ad 1000)), (1, .int p1), (2, .int x2), (3, .int x3)] → K4 x2 x3 → W p l e rmX6_slotOf s m args below meth c H locs 0 0 (MQ below (x_Qc D N0 (x_Vi (qPi (fixM ad F M ++ XF) h post))) args s 0 0 (x_A N0)) (F0 m 4 ls [])) {x2 : Int32} {x3 : Int32} {H : Heap} {locs : List Loc} {ls : Array Slot} (hR : x_R D s N0 (fixM ad F M ++ XF) h H) (hS : va_S (x_A N0) s.heap H locs) (hl : lv_has ls 4 [(0, .ref (ad 1000)), (1, .int p1), (2, .int x2), (3, .int x3)]) (hw : wX6_slotOf_b27 post K4 p1 F M x2 x3) : W p l e rmX6_slotOf s m args below meth c H locs 0 0 (MQ below (x_Qc D N0 (x_Vi (qPi (fixM ad F M ++ XF) h post))) args s 0 0 (x_A N0)) (F0 m 27 ls []) := by
  obtain ⟨⟨hx, hb, hml, hown, hts⟩, hr, hlocks, hG, hN⟩ := id C
  unfold wX6_slotOf_b27 at hw
  refine lv_iload_n hx hb dX6_slotOf_27 rfl (lv_at hl 2 rfl) ?_
  exact kX6_slotOf_b28 C hK4 hR hS (lv_sub hl [0, 1, 3] rfl) hw
def wX6_slotOf_b35 (post : Int32 → Prop) (p1 : Int32) (F : (Nat → Int32)) (M : (Nat → Nat → Int32)) (x2 : Int32) : Prop :=
  post x2 
theorem kX6_slotOf_b35 {post : Int32 → Prop} {p1 : Int32} {F : (Nat → Int32)} {M : (Nat → Nat → Int32)} (C : x_C p s m args meth c cX6_slotOf 4 (some .int) RX6 D N0 gp) {x2 : Int32} {H : Heap} {locs : List Loc} {ls : Array Slot} (hR : x_R D s N0 (fixM ad F M ++ XF) h H) (hS : va_S (x_A N0) s.heap H locs) (hl : lv_has ls 4 [(2, .int x2)]) (hw : wX6_slotOf_b35 post p1 F M x2) : W p l e rmX6_slotOf s m args below meth c H locs 0 0 (MQ below (x_Qc D N0 (x_Vi (qPi (fixM ad F M ++ XF) h post))) args s 0 0 (x_A N0)) (F0 m 35 ls []) := by
  obtain ⟨⟨hx, hb, hml, hown, hts⟩, hr, hlocks, hG, hN⟩ := id C
  unfold wX6_slotOf_b35 at hw
  refine lv_iload_n hx hb dX6_slotOf_35 rfl (lv_at hl 0 rfl) ?_
  exact x_endi C hR hS ⟨_, rfl, ⟨rfl, rfl, hw⟩⟩ (Nat.le_refl _) (Nat.le_refl _) dX6_slotOf_36
def tX6_slotOf_b4 (post : Int32 → Prop) (K4 : Int32 → Int32 → Prop) (p1 : Int32) (F : (Nat → Int32)) (M : (Nat → Nat → Int32)) (x2 : Int32) (x3 : Int32) : Prop :=
  ((4 : Int32) ≤ x3 → wX6_slotOf_b35 post p1 F M x2) ∧ (¬ (4 : Int32) ≤ x3 → (p1 ≤ 0 → wX6_slotOf_b27 post K4 p1 F M x2 x3) ∧ (¬ p1 ≤ 0 → vp_in x3 4 ∧ (((M 12) x3.toNatClampNeg) = p1 → wX6_slotOf_b28 post K4 p1 F M x3 x3) ∧ (¬ ((M 12) x3.toNatClampNeg) = p1 → wX6_slotOf_b27 post K4 p1 F M x2 x3)))
def wX6_slotOf_b4 (post : Int32 → Prop) (p1 : Int32) (F : (Nat → Int32)) (M : (Nat → Nat → Int32)) : Nat → Int32 → Int32 → Prop
  | 0 => fun _ _ => False
  | n + 1 => fun x2 x3 => tX6_slotOf_b4 post (wX6_slotOf_b4 post p1 F M n) p1 F M x2 x3
theorem kX6_slotOf_b4 {post : Int32 → Prop} {p1 : Int32} {F : (Nat → Int32)} {M : (Nat → Nat → Int32)} (C : x_C p s m args meth c cX6_slotOf 4 (some .int) RX6 D N0 gp) : ∀ (nn : Nat) (x2 : Int32) (x3 : Int32) (H : Heap) (locs : List Loc) (ls : Array Slot), x_R D s N0 (fixM ad F M ++ XF) h H → va_S (x_A N0) s.heap H locs → lv_has ls 4 [(0, .ref (ad 1000)), (1, .int p1), (2, .int x2), (3, .int x3)] → wX6_slotOf_b4 post p1 F M nn x2 x3 → W p l e rmX6_slotOf s m args below meth c H locs 0 0 (MQ below (x_Qc D N0 (x_Vi (qPi (fixM ad F M ++ XF) h post))) args s 0 0 (x_A N0)) (F0 m 4 ls []) := by
  obtain ⟨⟨hx, hb, hml, hown, hts⟩, hr, hlocks, hG, hN⟩ := id C
  intro nn
  induction nn with
  | zero =>
    intro x2 x3 H locs ls hR hS hl hw
    exact False.elim hw
  | succ nn ih =>
    intro x2 x3 H locs ls hR hS hl hw
    have hK4 := ih
    have hw : tX6_slotOf_b4 post (wX6_slotOf_b4 post p1 F M nn) p1 F M x2 x3 := hw
    unfold tX6_slotOf_b4 at hw
    refine lv_iload_n hx hb dX6_slotOf_4 rfl (lv_at hl 3 rfl) ?_
    refine lv_iconst (v := 4) hx hb dX6_slotOf_5 (by decide) ?_
    refine lv_icmp_ge (tgt := 35) hx hb dX6_slotOf_6 (by decide) (fun c7 => ?_) (fun c7 => ?_)
    · have hw := hw.1 c7
      exact kX6_slotOf_b35 C hR hS (lv_sub hl [2] rfl) hw
    · have hw := hw.2 c7
      refine lv_iload_n hx hb dX6_slotOf_9 rfl (lv_at hl 1 rfl) ?_
      refine lv_if_le (tgt := 27) hx hb dX6_slotOf_10 (by decide) (fun c8 => ?_) (fun c8 => ?_)
      · have hw := hw.1 c8
        exact kX6_slotOf_b27 C hK4 hR hS (lv_sub hl [0, 1, 2, 3] rfl) hw
      · have hw := hw.2 c8
        refine lv_aload_n hx hb dX6_slotOf_13 rfl (lv_at hl 0 rfl) ?_
        refine x_get (ci := 5) (Cn := RX6) (T := TX6) (N := 55) (v := .ref (ad 12)) C (hR.rdX 0 rfl) rfl in_X6 12 (by decide) q1191 (fun _ h9 => h9) rfl dX6_slotOf_14 ?_
        refine lv_iload_n hx hb dX6_slotOf_17 rfl (lv_at hl 3 rfl) ?_
        obtain ⟨b9, hw⟩ := hw
        refine x_iald (n := 4) (f := (M 12)) C (hR.rdX 9 rfl) b9 dX6_slotOf_18 ?_
        refine lv_iload_n hx hb dX6_slotOf_19 rfl (lv_at hl 1 rfl) ?_
        refine lv_icmp_ne (tgt := 27) hx hb dX6_slotOf_20 (by decide) (fun c10 => ?_) (fun c10 => ?_)
        · have hw := hw.2 c10
          exact kX6_slotOf_b27 C hK4 hR hS (lv_sub hl [0, 1, 2, 3] rfl) hw
        · have hw := hw.1 c10
          refine lv_iload_n hx hb dX6_slotOf_23 rfl (lv_at hl 3 rfl) ?_
          refine lv_goto (tgt := 28) hx hb dX6_slotOf_24 (by decide) ?_
          exact kX6_slotOf_b28 C hK4 hR hS (lv_sub hl [0, 1, 3] rfl) hw
end
def wX6_slotOf (post : Int32 → Prop) (p1 : Int32) (F : (Nat → Int32)) (M : (Nat → Nat → Int32)) : Prop :=
  ∃ n6 : Nat, wX6_slotOf_b4 post p1 F M n6 (-1) 0
theorem kX6_slotOf (l : Launch) (D : va_G) (N0 : Nat) (gp : Nat → Nat) (ad : Nat → Nat) (XF : x_X) (h : x_H) (p1 : Int32) (F : (Nat → Int32)) (M : (Nat → Nat → Int32)) (post : Int32 → Prop) (hw : wX6_slotOf post p1 F M ) : Met l yX6_slotOf (ws_ yX6_slotOf cX6_slotOf 4 (some .int)) rmX6_slotOf (x_Pc D N0 gp (fixM ad F M ++ XF) h [.ref (ad 1000), .int p1]) (x_Qc D N0 (x_Vi (qPi (fixM ad F M ++ XF) h post))) 0 0 (x_A N0) := by
  refine x_start (lv := [(0, .ref (ad 1000)), (1, .int p1)]) (by decide) rfl (Nat.le_of_ble_eq_true rfl) rfl ?_
  intro p e s m below meth c C hR ls hl
  have hS : va_S (x_A N0) s.heap s.heap [] := va_S.rf
  obtain ⟨⟨hx, hb, hml, hown, hts⟩, hr, hlocks, hG, hN⟩ := id C
  unfold wX6_slotOf at hw
  refine lv_iconst (v := -1) hx hb dX6_slotOf_0 (by decide) ?_
  refine lv_istore_n (lv' := [(2, .int (-1)), (0, .ref (ad 1000)), (1, .int p1)]) hx hb dX6_slotOf_1 rfl hl (by decide) rfl (fun ls hl => ?_)
  refine lv_iconst (v := 0) hx hb dX6_slotOf_2 (by decide) ?_
  refine lv_istore_n (lv' := [(3, .int 0), (2, .int (-1)), (0, .ref (ad 1000)), (1, .int p1)]) hx hb dX6_slotOf_3 rfl hl (by decide) rfl (fun ls hl => ?_)
  obtain ⟨n6, hw⟩ := hw
  exact kX6_slotOf_b4 C n6 _ _ _ _ _ hR hS (lv_sub hl [2, 3, 1, 0] rfl) hw
/-- PageServerModel.answer(I)V -/
abbrev rmX6_answer : Room := { frames := 2, cells := 0, slots := 0, locals := 45 }
section
variable {p : Program} {l : Launch} {e : Env} {s : State} {m : MethodId} {args : Array Value} {below : List Frame} {meth : Method} {c : Code} {D : va_G} {N0 : Nat} {gp : Nat → Nat} {ad : Nat → Nat} {XF : x_X} {h : x_H}
def wX6_answer_b191 (post : (Nat → Int32) → (Nat → Nat → Int32) → Prop) (p1 : Int32) (F : (Nat → Int32)) (M : (Nat → Nat → Int32)) : Prop :=
  post F M
theorem kX6_answer_b191 {post : (Nat → Int32) → (Nat → Nat → Int32) → Prop} {p1 : Int32} (C : x_C p s m args meth c cX6_answer 4 none RX6 D N0 gp) {F : (Nat → Int32)} {M : (Nat → Nat → Int32)} {H : Heap} {locs : List Loc} {ls : Array Slot} (hR : x_R D s N0 (fixM ad F M ++ XF) h H) (hS : va_S (x_A N0) s.heap H locs) (hl : lv_has ls 4 []) (hw : wX6_answer_b191 post p1 F M) : W p l e rmX6_answer s m args below meth c H locs 0 0 (MQ below (x_Qc D N0 (x_Vv (qMv ad XF h post))) args s 0 0 (x_A N0)) (F0 m 191 ls []) := by
  obtain ⟨⟨hx, hb, hml, hown, hts⟩, hr, hlocks, hG, hN⟩ := id C
  unfold wX6_answer_b191 at hw
  exact x_endv C hR hS ⟨rfl, ⟨_, _, rfl, rfl, hw⟩⟩ (Nat.le_refl _) (Nat.le_refl _) dX6_answer_191
def wX6_answer_b179 (post : (Nat → Int32) → (Nat → Nat → Int32) → Prop) (p1 : Int32) (F : (Nat → Int32)) (M : (Nat → Nat → Int32)) (x3 : Int32) (s0 : Int32) : Prop :=
  vp_in p1 4 ∧ (x3 = 0 → vp_in p1 4 ∧ wX6_answer_b191 post p1 F (va_up (va_up M 17 (upd (M 17) p1.toNatClampNeg s0)) 12 (upd (M 12) p1.toNatClampNeg 0))) ∧ (¬ x3 = 0 → wX6_answer_b191 post p1 F (va_up M 17 (upd (M 17) p1.toNatClampNeg s0)))
theorem kX6_answer_b179 {post : (Nat → Int32) → (Nat → Nat → Int32) → Prop} {p1 : Int32} (C : x_C p s m args meth c cX6_answer 4 none RX6 D N0 gp) {F : (Nat → Int32)} {M : (Nat → Nat → Int32)} {x3 : Int32} {s0 : Int32} {H : Heap} {locs : List Loc} {ls : Array Slot} (hR : x_R D s N0 (fixM ad F M ++ XF) h H) (hS : va_S (x_A N0) s.heap H locs) (hl : lv_has ls 4 [(0, .ref (ad 1000)), (1, .int p1), (3, .int x3)]) (hw : wX6_answer_b179 post p1 F M x3 s0) : W p l e rmX6_answer s m args below meth c H locs 0 0 (MQ below (x_Qc D N0 (x_Vv (qMv ad XF h post))) args s 0 0 (x_A N0)) (F0 m 179 ls [.int s0, .int p1, .ref (ad 17)]) := by
  obtain ⟨⟨hx, hb, hml, hown, hts⟩, hr, hlocks, hG, hN⟩ := id C
  unfold wX6_answer_b179 at hw
  obtain ⟨b54, hw⟩ := hw
  refine x_iastX (n := 4) (f := (M 17)) C hR hS 14 rfl b54 (sM_a17 ..) dX6_answer_179 (fun H locs hR hS => ?_)
  refine lv_iload_n hx hb dX6_answer_180 rfl (lv_at hl 2 rfl) ?_
  refine lv_if_ne (tgt := 191) hx hb dX6_answer_181 (by decide) (fun c55 => ?_) (fun c55 => ?_)
  · have hw := hw.2 c55
    exact kX6_answer_b191 C hR hS (lv_sub hl [] rfl) hw
  · have hw := hw.1 c55
    refine lv_aload_n hx hb dX6_answer_184 rfl (lv_at hl 0 rfl) ?_
    refine x_get (ci := 5) (Cn := RX6) (T := TX6) (N := 55) (v := .ref (ad 12)) C (hR.rdX 0 rfl) rfl in_X6 12 (by decide) q1191 (fun _ h9 => h9) rfl dX6_answer_185 ?_
    refine lv_iload_n hx hb dX6_answer_188 rfl (lv_at hl 1 rfl) ?_
    refine lv_iconst (v := 0) hx hb dX6_answer_189 (by decide) ?_
    obtain ⟨b56, hw⟩ := hw
    refine x_iastX (n := 4) (f := (M 12)) C hR hS 9 rfl b56 (sM_a12 ..) dX6_answer_190 (fun H locs hR hS => ?_)
    exact kX6_answer_b191 C hR hS (lv_sub hl [] rfl) hw
def wX6_answer_b153 (post : (Nat → Int32) → (Nat → Nat → Int32) → Prop) (p1 : Int32) (F : (Nat → Int32)) (M : (Nat → Nat → Int32)) (x2 : Int32) (x3 : Int32) : Prop :=
  vp_in p1 4 ∧ (x3 = 0 → wX6_answer_b179 post p1 F (va_up M 16 (upd (M 16) p1.toNatClampNeg x3)) x3 0) ∧ (¬ x3 = 0 → vp_in x2 8 ∧ wX6_answer_b179 post p1 F (va_up M 16 (upd (M 16) p1.toNatClampNeg x3)) x3 ((M 5) x2.toNatClampNeg))
theorem kX6_answer_b153 {post : (Nat → Int32) → (Nat → Nat → Int32) → Prop} {p1 : Int32} (C : x_C p s m args meth c cX6_answer 4 none RX6 D N0 gp) {F : (Nat → Int32)} {M : (Nat → Nat → Int32)} {x2 : Int32} {x3 : Int32} {H : Heap} {locs : List Loc} {ls : Array Slot} (hR : x_R D s N0 (fixM ad F M ++ XF) h H) (hS : va_S (x_A N0) s.heap H locs) (hl : lv_has ls 4 [(0, .ref (ad 1000)), (1, .int p1), (2, .int x2), (3, .int x3)]) (hw : wX6_answer_b153 post p1 F M x2 x3) : W p l e rmX6_answer s m args below meth c H locs 0 0 (MQ below (x_Qc D N0 (x_Vv (qMv ad XF h post))) args s 0 0 (x_A N0)) (F0 m 153 ls []) := by
  obtain ⟨⟨hx, hb, hml, hown, hts⟩, hr, hlocks, hG, hN⟩ := id C
  unfold wX6_answer_b153 at hw
  refine lv_aload_n hx hb dX6_answer_153 rfl (lv_at hl 0 rfl) ?_
  refine x_get (ci := 5) (Cn := RX6) (T := TX6) (N := 55) (v := .ref (ad 16)) C (hR.rdX 0 rfl) rfl in_X6 16 (by decide) q1195 (fun _ h9 => h9) rfl dX6_answer_154 ?_
  refine lv_iload_n hx hb dX6_answer_157 rfl (lv_at hl 1 rfl) ?_
  refine lv_iload_n hx hb dX6_answer_158 rfl (lv_at hl 3 rfl) ?_
  obtain ⟨b51, hw⟩ := hw
  refine x_iastX (n := 4) (f := (M 16)) C hR hS 13 rfl b51 (sM_a16 ..) dX6_answer_159 (fun H locs hR hS => ?_)
  refine lv_aload_n hx hb dX6_answer_160 rfl (lv_at hl 0 rfl) ?_
  refine x_get (ci := 5) (Cn := RX6) (T := TX6) (N := 55) (v := .ref (ad 17)) C (hR.rdX 0 rfl) rfl in_X6 17 (by decide) q1196 (fun _ h9 => h9) rfl dX6_answer_161 ?_
  refine lv_iload_n hx hb dX6_answer_164 rfl (lv_at hl 1 rfl) ?_
  refine lv_iload_n hx hb dX6_answer_165 rfl (lv_at hl 3 rfl) ?_
  refine lv_if_ne (tgt := 173) hx hb dX6_answer_166 (by decide) (fun c52 => ?_) (fun c52 => ?_)
  · have hw := hw.2 c52
    refine lv_aload_n hx hb dX6_answer_173 rfl (lv_at hl 0 rfl) ?_
    refine x_get (ci := 5) (Cn := RX6) (T := TX6) (N := 55) (v := .ref (ad 5)) C (hR.rdX 0 rfl) rfl in_X6 5 (by decide) q1184 (fun _ h9 => h9) rfl dX6_answer_174 ?_
    refine lv_iload_n hx hb dX6_answer_177 rfl (lv_at hl 2 rfl) ?_
    obtain ⟨b53, hw⟩ := hw
    refine x_iald (n := 8) (f := (M 5)) C (hR.rdX 4 rfl) b53 dX6_answer_178 ?_
    exact kX6_answer_b179 C hR hS (lv_sub hl [0, 1, 3] rfl) hw
  · have hw := hw.1 c52
    refine lv_iconst (v := 0) hx hb dX6_answer_169 (by decide) ?_
    refine lv_goto (tgt := 179) hx hb dX6_answer_170 (by decide) ?_
    exact kX6_answer_b179 C hR hS (lv_sub hl [0, 1, 3] rfl) hw
def wX6_answer_b118 (post : (Nat → Int32) → (Nat → Nat → Int32) → Prop) (p1 : Int32) (F : (Nat → Int32)) (M : (Nat → Nat → Int32)) (x2 : Int32) (x3 : Int32) (s0 : Int32) : Prop :=
  wX6_say (fun F50 M50 => wX6_answer_b153 post p1 F50 M50 x2 x3) s0 F M
theorem kX6_answer_b118 {post : (Nat → Int32) → (Nat → Nat → Int32) → Prop} {p1 : Int32} (C : x_C p s m args meth c cX6_answer 4 none RX6 D N0 gp) {F : (Nat → Int32)} {M : (Nat → Nat → Int32)} {x2 : Int32} {x3 : Int32} {s0 : Int32} {H : Heap} {locs : List Loc} {ls : Array Slot} (hR : x_R D s N0 (fixM ad F M ++ XF) h H) (hS : va_S (x_A N0) s.heap H locs) (hl : lv_has ls 4 [(0, .ref (ad 1000)), (1, .int p1), (2, .int x2), (3, .int x3)]) (hw : wX6_answer_b118 post p1 F M x2 x3 s0) : W p l e rmX6_answer s m args below meth c H locs 0 0 (MQ below (x_Qc D N0 (x_Vv (qMv ad XF h post))) args s 0 0 (x_A N0)) (F0 m 118 ls [.int s0, .ref (ad 1000)]) := by
  obtain ⟨⟨hx, hb, hml, hown, hts⟩, hr, hlocks, hG, hN⟩ := id C
  unfold wX6_answer_b118 at hw
  refine x_callv0 (x_runV (n := 1) (As := [.int s0]) C hR hS (kX6_say l D N0 gp ad XF _ s0 F M _ hw) (lw_V q1175 q1177 qs41 q104 q1178) rfl rfl (by decide +kernel) ⟨Nat.le_of_ble_eq_true rfl, Nat.le_of_ble_eq_true rfl⟩ (x_recv C (hR.rdX 0 rfl) rfl) rfl hl.1 rfl (Nat.le_of_ble_eq_true rfl) dX6_answer_118 ⟨Nat.le_refl _, Nat.le_refl _⟩) hS (fun X1 h1 H locs hq hR hS => ?_)
  obtain ⟨F50, M50, e1, e2, hw⟩ := hq
  rw [e1, e2] at hR
  refine lv_goto (tgt := 153) hx hb dX6_answer_121 (by decide) ?_
  exact kX6_answer_b153 C hR hS (lv_sub hl [0, 1, 2, 3] rfl) hw
def wX6_answer_b84 (post : (Nat → Int32) → (Nat → Nat → Int32) → Prop) (p1 : Int32) (F : (Nat → Int32)) (M : (Nat → Nat → Int32)) (x2 : Int32) (x3 : Int32) (s0 : Int32) (s2 : Int32) : Prop :=
  vp_in p1 4 ∧ wX6_head (fun F41 M41 => vp_in p1 4 ∧ ((2 : Int32) ≤ ((M41 19) p1.toNatClampNeg) → wX6_say (fun F44 M44 => wX6_say (fun F45 M45 => wX6_say (fun F46 M46 => wX6_say (fun F47 M47 => wX6_say (fun F48 M48 => wX6_answer_b153 post p1 F48 M48 x2 x3) 53 F47 M47) 48 F46 M46) 52 F45 M45) 3 F44 M44) 6 F41 M41) ∧ (¬ (2 : Int32) ≤ ((M41 19) p1.toNatClampNeg) → (x2 = (-1) → wX6_answer_b118 post p1 F41 M41 x2 x3 135) ∧ (¬ x2 = (-1) → wX6_answer_b118 post p1 F41 M41 x2 x3 134))) s2 1 s0 ((M 12) p1.toNatClampNeg) F M
theorem kX6_answer_b84 {post : (Nat → Int32) → (Nat → Nat → Int32) → Prop} {p1 : Int32} (C : x_C p s m args meth c cX6_answer 4 none RX6 D N0 gp) {F : (Nat → Int32)} {M : (Nat → Nat → Int32)} {x2 : Int32} {x3 : Int32} {s0 : Int32} {s2 : Int32} {H : Heap} {locs : List Loc} {ls : Array Slot} (hR : x_R D s N0 (fixM ad F M ++ XF) h H) (hS : va_S (x_A N0) s.heap H locs) (hl : lv_has ls 4 [(0, .ref (ad 1000)), (1, .int p1), (2, .int x2), (3, .int x3)]) (hw : wX6_answer_b84 post p1 F M x2 x3 s0 s2) : W p l e rmX6_answer s m args below meth c H locs 0 0 (MQ below (x_Qc D N0 (x_Vv (qMv ad XF h post))) args s 0 0 (x_A N0)) (F0 m 84 ls [.int s0, .int 1, .int s2, .ref (ad 1000)]) := by
  obtain ⟨⟨hx, hb, hml, hown, hts⟩, hr, hlocks, hG, hN⟩ := id C
  unfold wX6_answer_b84 at hw
  refine lv_aload_n hx hb dX6_answer_84 rfl (lv_at hl 0 rfl) ?_
  refine x_get (ci := 5) (Cn := RX6) (T := TX6) (N := 55) (v := .ref (ad 12)) C (hR.rdX 0 rfl) rfl in_X6 12 (by decide) q1191 (fun _ h9 => h9) rfl dX6_answer_85 ?_
  refine lv_iload_n hx hb dX6_answer_88 rfl (lv_at hl 1 rfl) ?_
  obtain ⟨b40, hw⟩ := hw
  refine x_iald (n := 4) (f := (M 12)) C (hR.rdX 9 rfl) b40 dX6_answer_89 ?_
  refine x_callv0 (x_runV (n := 4) (As := [.int s2, .int 1, .int s0, .int ((M 12) p1.toNatClampNeg)]) C hR hS (kX6_head l D N0 gp ad XF _ s2 1 s0 ((M 12) p1.toNatClampNeg) F M _ hw) (lw_V q1171 q1173 qs40 q104 q1174) rfl rfl (by decide +kernel) ⟨Nat.le_of_ble_eq_true rfl, Nat.le_of_ble_eq_true rfl⟩ (x_recv C (hR.rdX 0 rfl) rfl) rfl hl.1 rfl (Nat.le_of_ble_eq_true rfl) dX6_answer_90 ⟨Nat.le_refl _, Nat.le_refl _⟩) hS (fun X1 h1 H locs hq hR hS => ?_)
  obtain ⟨F41, M41, e1, e2, hw⟩ := hq
  rw [e1, e2] at hR
  refine lv_aload_n hx hb dX6_answer_93 rfl (lv_at hl 0 rfl) ?_
  refine x_get (ci := 5) (Cn := RX6) (T := TX6) (N := 55) (v := .ref (ad 19)) C (hR.rdX 0 rfl) rfl in_X6 19 (by decide) q1198 (fun _ h9 => h9) rfl dX6_answer_94 ?_
  refine lv_iload_n hx hb dX6_answer_97 rfl (lv_at hl 1 rfl) ?_
  obtain ⟨b42, hw⟩ := hw
  refine x_iald (n := 4) (f := (M41 19)) C (hR.rdX 16 rfl) b42 dX6_answer_98 ?_
  refine lv_iconst (v := 2) hx hb dX6_answer_99 (by decide) ?_
  refine lv_icmp_ge (tgt := 124) hx hb dX6_answer_100 (by decide) (fun c43 => ?_) (fun c43 => ?_)
  · have hw := hw.1 c43
    refine lv_aload_n hx hb dX6_answer_124 rfl (lv_at hl 0 rfl) ?_
    refine lv_bipush (v := 6) hx hb dX6_answer_125 (by decide) ?_
    refine x_callv0 (x_runV (n := 1) (As := [.int 6]) C hR hS (kX6_say l D N0 gp ad XF _ 6 F41 M41 _ hw) (lw_V q1175 q1177 qs41 q104 q1178) rfl rfl (by decide +kernel) ⟨Nat.le_of_ble_eq_true rfl, Nat.le_of_ble_eq_true rfl⟩ (x_recv C (hR.rdX 0 rfl) rfl) rfl hl.1 rfl (Nat.le_of_ble_eq_true rfl) dX6_answer_127 ⟨Nat.le_refl _, Nat.le_refl _⟩) hS (fun X1 h1 H locs hq hR hS => ?_)
    obtain ⟨F44, M44, e1, e2, hw⟩ := hq
    rw [e1, e2] at hR
    refine lv_aload_n hx hb dX6_answer_130 rfl (lv_at hl 0 rfl) ?_
    refine lv_iconst (v := 3) hx hb dX6_answer_131 (by decide) ?_
    refine x_callv0 (x_runV (n := 1) (As := [.int 3]) C hR hS (kX6_say l D N0 gp ad XF _ 3 F44 M44 _ hw) (lw_V q1175 q1177 qs41 q104 q1178) rfl rfl (by decide +kernel) ⟨Nat.le_of_ble_eq_true rfl, Nat.le_of_ble_eq_true rfl⟩ (x_recv C (hR.rdX 0 rfl) rfl) rfl hl.1 rfl (Nat.le_of_ble_eq_true rfl) dX6_answer_132 ⟨Nat.le_refl _, Nat.le_refl _⟩) hS (fun X1 h1 H locs hq hR hS => ?_)
    obtain ⟨F45, M45, e1, e2, hw⟩ := hq
    rw [e1, e2] at hR
    refine lv_aload_n hx hb dX6_answer_135 rfl (lv_at hl 0 rfl) ?_
    refine lv_bipush (v := 52) hx hb dX6_answer_136 (by decide) ?_
    refine x_callv0 (x_runV (n := 1) (As := [.int 52]) C hR hS (kX6_say l D N0 gp ad XF _ 52 F45 M45 _ hw) (lw_V q1175 q1177 qs41 q104 q1178) rfl rfl (by decide +kernel) ⟨Nat.le_of_ble_eq_true rfl, Nat.le_of_ble_eq_true rfl⟩ (x_recv C (hR.rdX 0 rfl) rfl) rfl hl.1 rfl (Nat.le_of_ble_eq_true rfl) dX6_answer_138 ⟨Nat.le_refl _, Nat.le_refl _⟩) hS (fun X1 h1 H locs hq hR hS => ?_)
    obtain ⟨F46, M46, e1, e2, hw⟩ := hq
    rw [e1, e2] at hR
    refine lv_aload_n hx hb dX6_answer_141 rfl (lv_at hl 0 rfl) ?_
    refine lv_bipush (v := 48) hx hb dX6_answer_142 (by decide) ?_
    refine x_callv0 (x_runV (n := 1) (As := [.int 48]) C hR hS (kX6_say l D N0 gp ad XF _ 48 F46 M46 _ hw) (lw_V q1175 q1177 qs41 q104 q1178) rfl rfl (by decide +kernel) ⟨Nat.le_of_ble_eq_true rfl, Nat.le_of_ble_eq_true rfl⟩ (x_recv C (hR.rdX 0 rfl) rfl) rfl hl.1 rfl (Nat.le_of_ble_eq_true rfl) dX6_answer_144 ⟨Nat.le_refl _, Nat.le_refl _⟩) hS (fun X1 h1 H locs hq hR hS => ?_)
    obtain ⟨F47, M47, e1, e2, hw⟩ := hq
    rw [e1, e2] at hR
    refine lv_aload_n hx hb dX6_answer_147 rfl (lv_at hl 0 rfl) ?_
    refine lv_bipush (v := 53) hx hb dX6_answer_148 (by decide) ?_
    refine x_callv0 (x_runV (n := 1) (As := [.int 53]) C hR hS (kX6_say l D N0 gp ad XF _ 53 F47 M47 _ hw) (lw_V q1175 q1177 qs41 q104 q1178) rfl rfl (by decide +kernel) ⟨Nat.le_of_ble_eq_true rfl, Nat.le_of_ble_eq_true rfl⟩ (x_recv C (hR.rdX 0 rfl) rfl) rfl hl.1 rfl (Nat.le_of_ble_eq_true rfl) dX6_answer_150 ⟨Nat.le_refl _, Nat.le_refl _⟩) hS (fun X1 h1 H locs hq hR hS => ?_)
    obtain ⟨F48, M48, e1, e2, hw⟩ := hq
    rw [e1, e2] at hR
    exact kX6_answer_b153 C hR hS (lv_sub hl [0, 1, 2, 3] rfl) hw
  · have hw := hw.2 c43
    refine lv_aload_n hx hb dX6_answer_103 rfl (lv_at hl 0 rfl) ?_
    refine lv_iload_n hx hb dX6_answer_104 rfl (lv_at hl 2 rfl) ?_
    refine lv_iconst (v := -1) hx hb dX6_answer_105 (by decide) ?_
    refine lv_icmp_ne (tgt := 115) hx hb dX6_answer_106 (by decide) (fun c49 => ?_) (fun c49 => ?_)
    · have hw := hw.2 c49
      refine lv_sipush (v := 134) hx hb dX6_answer_115 (by decide) ?_
      exact kX6_answer_b118 C hR hS (lv_sub hl [0, 1, 2, 3] rfl) hw
    · have hw := hw.1 c49
      refine lv_sipush (v := 135) hx hb dX6_answer_109 (by decide) ?_
      refine lv_goto (tgt := 118) hx hb dX6_answer_112 (by decide) ?_
      exact kX6_answer_b118 C hR hS (lv_sub hl [0, 1, 2, 3] rfl) hw
def wX6_answer_b74 (post : (Nat → Int32) → (Nat → Nat → Int32) → Prop) (p1 : Int32) (F : (Nat → Int32)) (M : (Nat → Nat → Int32)) (x2 : Int32) (x3 : Int32) (s0 : Int32) : Prop :=
  (x3 = 0 → wX6_answer_b84 post p1 F M x2 x3 5 s0) ∧ (¬ x3 = 0 → wX6_answer_b84 post p1 F M x2 x3 4 s0)
theorem kX6_answer_b74 {post : (Nat → Int32) → (Nat → Nat → Int32) → Prop} {p1 : Int32} (C : x_C p s m args meth c cX6_answer 4 none RX6 D N0 gp) {F : (Nat → Int32)} {M : (Nat → Nat → Int32)} {x2 : Int32} {x3 : Int32} {s0 : Int32} {H : Heap} {locs : List Loc} {ls : Array Slot} (hR : x_R D s N0 (fixM ad F M ++ XF) h H) (hS : va_S (x_A N0) s.heap H locs) (hl : lv_has ls 4 [(0, .ref (ad 1000)), (1, .int p1), (2, .int x2), (3, .int x3)]) (hw : wX6_answer_b74 post p1 F M x2 x3 s0) : W p l e rmX6_answer s m args below meth c H locs 0 0 (MQ below (x_Qc D N0 (x_Vv (qMv ad XF h post))) args s 0 0 (x_A N0)) (F0 m 74 ls [.int s0, .ref (ad 1000)]) := by
  obtain ⟨⟨hx, hb, hml, hown, hts⟩, hr, hlocks, hG, hN⟩ := id C
  unfold wX6_answer_b74 at hw
  refine lv_iconst (v := 1) hx hb dX6_answer_74 (by decide) ?_
  refine lv_iload_n hx hb dX6_answer_75 rfl (lv_at hl 3 rfl) ?_
  refine lv_if_ne (tgt := 83) hx hb dX6_answer_76 (by decide) (fun c39 => ?_) (fun c39 => ?_)
  · have hw := hw.2 c39
    refine lv_iconst (v := 4) hx hb dX6_answer_83 (by decide) ?_
    exact kX6_answer_b84 C hR hS (lv_sub hl [0, 1, 2, 3] rfl) hw
  · have hw := hw.1 c39
    refine lv_iconst (v := 5) hx hb dX6_answer_79 (by decide) ?_
    refine lv_goto (tgt := 84) hx hb dX6_answer_80 (by decide) ?_
    exact kX6_answer_b84 C hR hS (lv_sub hl [0, 1, 2, 3] rfl) hw
def wX6_answer_b57 (post : (Nat → Int32) → (Nat → Nat → Int32) → Prop) (p1 : Int32) (F : (Nat → Int32)) (M : (Nat → Nat → Int32)) (x2 : Int32) (s0 : Int32) : Prop :=
  vp_in p1 4 ∧ ((2 : Int32) ≤ ((M 19) p1.toNatClampNeg) → wX6_answer_b74 post p1 F M x2 s0 5) ∧ (¬ (2 : Int32) ≤ ((M 19) p1.toNatClampNeg) → wX6_answer_b74 post p1 F M x2 s0 1)
theorem kX6_answer_b57 {post : (Nat → Int32) → (Nat → Nat → Int32) → Prop} {p1 : Int32} (C : x_C p s m args meth c cX6_answer 4 none RX6 D N0 gp) {F : (Nat → Int32)} {M : (Nat → Nat → Int32)} {x2 : Int32} {s0 : Int32} {H : Heap} {locs : List Loc} {ls : Array Slot} (hR : x_R D s N0 (fixM ad F M ++ XF) h H) (hS : va_S (x_A N0) s.heap H locs) (hl : lv_has ls 4 [(0, .ref (ad 1000)), (1, .int p1), (2, .int x2)]) (hw : wX6_answer_b57 post p1 F M x2 s0) : W p l e rmX6_answer s m args below meth c H locs 0 0 (MQ below (x_Qc D N0 (x_Vv (qMv ad XF h post))) args s 0 0 (x_A N0)) (F0 m 57 ls [.int s0]) := by
  obtain ⟨⟨hx, hb, hml, hown, hts⟩, hr, hlocks, hG, hN⟩ := id C
  unfold wX6_answer_b57 at hw
  refine lv_istore_n (lv' := [(3, .int s0), (0, .ref (ad 1000)), (1, .int p1), (2, .int x2)]) hx hb dX6_answer_57 rfl hl (by decide) rfl (fun ls hl => ?_)
  refine lv_aload_n hx hb dX6_answer_58 rfl (lv_at hl 1 rfl) ?_
  refine lv_aload_n hx hb dX6_answer_59 rfl (lv_at hl 1 rfl) ?_
  refine x_get (ci := 5) (Cn := RX6) (T := TX6) (N := 55) (v := .ref (ad 19)) C (hR.rdX 0 rfl) rfl in_X6 19 (by decide) q1198 (fun _ h9 => h9) rfl dX6_answer_60 ?_
  refine lv_iload_n hx hb dX6_answer_63 rfl (lv_at hl 2 rfl) ?_
  obtain ⟨b37, hw⟩ := hw
  refine x_iald (n := 4) (f := (M 19)) C (hR.rdX 16 rfl) b37 dX6_answer_64 ?_
  refine lv_iconst (v := 2) hx hb dX6_answer_65 (by decide) ?_
  refine lv_icmp_ge (tgt := 73) hx hb dX6_answer_66 (by decide) (fun c38 => ?_) (fun c38 => ?_)
  · have hw := hw.1 c38
    refine lv_iconst (v := 5) hx hb dX6_answer_73 (by decide) ?_
    exact kX6_answer_b74 C hR hS (lv_sub hl [1, 2, 3, 0] rfl) hw
  · have hw := hw.2 c38
    refine lv_iconst (v := 1) hx hb dX6_answer_69 (by decide) ?_
    refine lv_goto (tgt := 74) hx hb dX6_answer_70 (by decide) ?_
    exact kX6_answer_b74 C hR hS (lv_sub hl [1, 2, 3, 0] rfl) hw
def wX6_answer_b56 (post : (Nat → Int32) → (Nat → Nat → Int32) → Prop) (p1 : Int32) (F : (Nat → Int32)) (M : (Nat → Nat → Int32)) (x2 : Int32) : Prop :=
  wX6_answer_b57 post p1 F M x2 0
theorem kX6_answer_b56 {post : (Nat → Int32) → (Nat → Nat → Int32) → Prop} {p1 : Int32} (C : x_C p s m args meth c cX6_answer 4 none RX6 D N0 gp) {F : (Nat → Int32)} {M : (Nat → Nat → Int32)} {x2 : Int32} {H : Heap} {locs : List Loc} {ls : Array Slot} (hR : x_R D s N0 (fixM ad F M ++ XF) h H) (hS : va_S (x_A N0) s.heap H locs) (hl : lv_has ls 4 [(0, .ref (ad 1000)), (1, .int p1), (2, .int x2)]) (hw : wX6_answer_b56 post p1 F M x2) : W p l e rmX6_answer s m args below meth c H locs 0 0 (MQ below (x_Qc D N0 (x_Vv (qMv ad XF h post))) args s 0 0 (x_A N0)) (F0 m 56 ls []) := by
  obtain ⟨⟨hx, hb, hml, hown, hts⟩, hr, hlocks, hG, hN⟩ := id C
  unfold wX6_answer_b56 at hw
  refine lv_iconst (v := 0) hx hb dX6_answer_56 (by decide) ?_
  exact kX6_answer_b57 C hR hS (lv_sub hl [0, 1, 2] rfl) hw
def wX6_answer_b32 (post : (Nat → Int32) → (Nat → Nat → Int32) → Prop) (p1 : Int32) (F : (Nat → Int32)) (M : (Nat → Nat → Int32)) (s0 : Int32) : Prop :=
  vp_in p1 4 ∧ (((M 19) p1.toNatClampNeg) = 0 → (s0 = (-1) → wX6_answer_b56 post p1 F M s0) ∧ (¬ s0 = (-1) → vp_in s0 8 ∧ wX6_answer_b57 post p1 F M s0 ((M 4) s0.toNatClampNeg))) ∧ (¬ ((M 19) p1.toNatClampNeg) = 0 → wX6_answer_b56 post p1 F M s0)
theorem kX6_answer_b32 {post : (Nat → Int32) → (Nat → Nat → Int32) → Prop} {p1 : Int32} (C : x_C p s m args meth c cX6_answer 4 none RX6 D N0 gp) {F : (Nat → Int32)} {M : (Nat → Nat → Int32)} {s0 : Int32} {H : Heap} {locs : List Loc} {ls : Array Slot} (hR : x_R D s N0 (fixM ad F M ++ XF) h H) (hS : va_S (x_A N0) s.heap H locs) (hl : lv_has ls 4 [(0, .ref (ad 1000)), (1, .int p1)]) (hw : wX6_answer_b32 post p1 F M s0) : W p l e rmX6_answer s m args below meth c H locs 0 0 (MQ below (x_Qc D N0 (x_Vv (qMv ad XF h post))) args s 0 0 (x_A N0)) (F0 m 32 ls [.int s0]) := by
  obtain ⟨⟨hx, hb, hml, hown, hts⟩, hr, hlocks, hG, hN⟩ := id C
  unfold wX6_answer_b32 at hw
  refine lv_istore_n (lv' := [(2, .int s0), (0, .ref (ad 1000)), (1, .int p1)]) hx hb dX6_answer_32 rfl hl (by decide) rfl (fun ls hl => ?_)
  refine lv_aload_n hx hb dX6_answer_33 rfl (lv_at hl 1 rfl) ?_
  refine x_get (ci := 5) (Cn := RX6) (T := TX6) (N := 55) (v := .ref (ad 19)) C (hR.rdX 0 rfl) rfl in_X6 19 (by decide) q1198 (fun _ h9 => h9) rfl dX6_answer_34 ?_
  refine lv_iload_n hx hb dX6_answer_37 rfl (lv_at hl 2 rfl) ?_
  obtain ⟨b33, hw⟩ := hw
  refine x_iald (n := 4) (f := (M 19)) C (hR.rdX 16 rfl) b33 dX6_answer_38 ?_
  refine lv_if_ne (tgt := 56) hx hb dX6_answer_39 (by decide) (fun c34 => ?_) (fun c34 => ?_)
  · have hw := hw.2 c34
    exact kX6_answer_b56 C hR hS (lv_sub hl [1, 2, 0] rfl) hw
  · have hw := hw.1 c34
    refine lv_iload_n hx hb dX6_answer_42 rfl (lv_at hl 0 rfl) ?_
    refine lv_iconst (v := -1) hx hb dX6_answer_43 (by decide) ?_
    refine lv_icmp_eq (tgt := 56) hx hb dX6_answer_44 (by decide) (fun c35 => ?_) (fun c35 => ?_)
    · have hw := hw.1 c35
      exact kX6_answer_b56 C hR hS (lv_sub hl [1, 2, 0] rfl) hw
    · have hw := hw.2 c35
      refine lv_aload_n hx hb dX6_answer_47 rfl (lv_at hl 1 rfl) ?_
      refine x_get (ci := 5) (Cn := RX6) (T := TX6) (N := 55) (v := .ref (ad 4)) C (hR.rdX 0 rfl) rfl in_X6 4 (by decide) q1183 (fun _ h9 => h9) rfl dX6_answer_48 ?_
      refine lv_iload_n hx hb dX6_answer_51 rfl (lv_at hl 0 rfl) ?_
      obtain ⟨b36, hw⟩ := hw
      refine x_iald (n := 8) (f := (M 4)) C (hR.rdX 3 rfl) b36 dX6_answer_52 ?_
      refine lv_goto (tgt := 57) hx hb dX6_answer_53 (by decide) ?_
      exact kX6_answer_b57 C hR hS (lv_sub hl [1, 2, 0] rfl) hw
end
def wX6_answer (post : (Nat → Int32) → (Nat → Nat → Int32) → Prop) (p1 : Int32) (F : (Nat → Int32)) (M : (Nat → Nat → Int32)) : Prop :=
  vp_in p1 4 ∧ ((2 : Int32) ≤ ((M 19) p1.toNatClampNeg) → wX6_answer_b32 post p1 F M (-1)) ∧ (¬ (2 : Int32) ≤ ((M 19) p1.toNatClampNeg) → vp_in p1 4 ∧ wX6_pageOf (fun r32 => wX6_answer_b32 post p1 F M r32) ((20 : Int32) * p1) ((M 20) p1.toNatClampNeg) 21 80 18 F M)
theorem kX6_answer (l : Launch) (D : va_G) (N0 : Nat) (gp : Nat → Nat) (ad : Nat → Nat) (XF : x_X) (h : x_H) (p1 : Int32) (F : (Nat → Int32)) (M : (Nat → Nat → Int32)) (post : (Nat → Int32) → (Nat → Nat → Int32) → Prop) (hw : wX6_answer post p1 F M) : Met l yX6_answer (ws_ yX6_answer cX6_answer 4 none) rmX6_answer (x_Pc D N0 gp (fixM ad F M ++ XF) h [.ref (ad 1000), .int p1]) (x_Qc D N0 (x_Vv (qMv ad XF h post))) 0 0 (x_A N0) := by
  refine x_start (lv := [(0, .ref (ad 1000)), (1, .int p1)]) (by decide) rfl (Nat.le_of_ble_eq_true rfl) rfl ?_
  intro p e s m below meth c C hR ls hl
  have hS : va_S (x_A N0) s.heap s.heap [] := va_S.rf
  obtain ⟨⟨hx, hb, hml, hown, hts⟩, hr, hlocks, hG, hN⟩ := id C
  unfold wX6_answer at hw
  refine lv_aload_n hx hb dX6_answer_0 rfl (lv_at hl 0 rfl) ?_
  refine x_get (ci := 5) (Cn := RX6) (T := TX6) (N := 55) (v := .ref (ad 19)) C (hR.rdX 0 rfl) rfl in_X6 19 (by decide) q1198 (fun _ h9 => h9) rfl dX6_answer_1 ?_
  refine lv_iload_n hx hb dX6_answer_4 rfl (lv_at hl 1 rfl) ?_
  obtain ⟨b29, hw⟩ := hw
  refine x_iald (n := 4) (f := (M 19)) C (hR.rdX 16 rfl) b29 dX6_answer_5 ?_
  refine lv_iconst (v := 2) hx hb dX6_answer_6 (by decide) ?_
  refine lv_icmp_ge (tgt := 31) hx hb dX6_answer_7 (by decide) (fun c30 => ?_) (fun c30 => ?_)
  · have hw := hw.1 c30
    refine lv_iconst (v := -1) hx hb dX6_answer_31 (by decide) ?_
    exact kX6_answer_b32 C hR hS (lv_sub hl [0, 1] rfl) hw
  · have hw := hw.2 c30
    refine lv_aload_n hx hb dX6_answer_10 rfl (lv_at hl 0 rfl) ?_
    refine lv_aload_n hx hb dX6_answer_11 rfl (lv_at hl 0 rfl) ?_
    refine x_get (ci := 5) (Cn := RX6) (T := TX6) (N := 55) (v := .ref (ad 21)) C (hR.rdX 0 rfl) rfl in_X6 21 (by decide) q1200 (fun _ h9 => h9) rfl dX6_answer_12 ?_
    refine lv_bipush (v := 20) hx hb dX6_answer_15 (by decide) ?_
    refine lv_iload_n hx hb dX6_answer_17 rfl (lv_at hl 1 rfl) ?_
    refine lv_imul hx hb dX6_answer_18 ?_
    refine lv_aload_n hx hb dX6_answer_19 rfl (lv_at hl 0 rfl) ?_
    refine x_get (ci := 5) (Cn := RX6) (T := TX6) (N := 55) (v := .ref (ad 20)) C (hR.rdX 0 rfl) rfl in_X6 20 (by decide) q1199 (fun _ h9 => h9) rfl dX6_answer_20 ?_
    refine lv_iload_n hx hb dX6_answer_23 rfl (lv_at hl 1 rfl) ?_
    obtain ⟨b31, hw⟩ := hw
    refine x_iald (n := 4) (f := (M 20)) C (hR.rdX 17 rfl) b31 dX6_answer_24 ?_
    refine x_calli0 (x_runV (n := 3) (As := [.ref (ad 21), .int ((20 : Int32) * p1), .int ((M 20) p1.toNatClampNeg)]) C hR hS (kX6_pageOf l D N0 gp ad XF _ ((20 : Int32) * p1) ((M 20) p1.toNatClampNeg) 21 80 18 F M _ (fun _ _ => rfl) hw) (lw_V q1379 q1381 qs44 q104 q1382) rfl rfl (by decide +kernel) ⟨Nat.le_of_ble_eq_true rfl, Nat.le_of_ble_eq_true rfl⟩ (x_recv C (hR.rdX 0 rfl) rfl) rfl hl.1 rfl (Nat.le_of_ble_eq_true rfl) dX6_answer_25 ⟨Nat.le_refl _, Nat.le_refl _⟩) hS (fun r32 X1 h1 H locs hq hR hS => ?_)
    obtain ⟨e1, e2, hw⟩ := hq
    rw [e1, e2] at hR
    refine lv_goto (tgt := 32) hx hb dX6_answer_28 (by decide) ?_
    exact kX6_answer_b32 C hR hS (lv_sub hl [0, 1] rfl) hw
