/-! the walks of the JDK members, printed by gen/walk.py -/
set_option maxHeartbeats 4000000
set_option maxRecDepth 100000
/-- java/util/AbstractCollection.<init>()V -/
abbrev rmJ0_init : Room := { frames := 1, cells := 0, slots := 0, locals := 12 }
section
variable {p : Program} {l : Launch} {e : Env} {s : State} {m : MethodId} {args : Array Value} {below : List Frame} {meth : Method} {c : Code} {D : va_G} {N0 : Nat} {gp : Nat → Nat} {X : x_X}
end
def wJ0_init (post : Prop) (p0 : Nat) (h : x_H) : Prop :=
  post
theorem kJ0_init (l : Launch) (D : va_G) (N0 : Nat) (gp : Nat → Nat) (X : x_X) (p0 : Nat) (h : x_H) (post : Prop) (hw : wJ0_init post p0 h ) : Met l yJ0_init (ws_ yJ0_init cJ0_init 1 none) rmJ0_init (x_Pc D N0 gp X h [.ref p0]) (x_Qc D N0 (x_Vv (qPv X h post))) 0 0 (x_A N0) := by
  refine x_startI (lv := [(0, .ref p0)]) (by decide) rfl (Nat.le_of_ble_eq_true rfl) rfl ?_
  intro p e s m below meth c C hin hR ls hl
  have hS : va_S (x_A N0) s.heap s.heap [] := va_S.rf
  obtain ⟨⟨hx, hb, hml, hown, hts⟩, hr, hlocks, hG, hN⟩ := id C
  unfold wJ0_init at hw
  refine lv_aload_n hx hb dJ0_init_0 rfl (lv_at hl 0 rfl) ?_
  refine x_objInit C q134 q121 q122 hl.1 dJ0_init_1 (Nat.le_of_ble_eq_true rfl) (Nat.le_of_ble_eq_true rfl) ?_
  exact x_endv C hR hS ⟨rfl, ⟨rfl, rfl, hw⟩⟩ (Nat.le_refl _) (Nat.le_refl _) dJ0_init_4
/-- java/util/AbstractList.<init>()V -/
abbrev rmJ1_init : Room := { frames := 2, cells := 0, slots := 0, locals := 32 }
section
variable {p : Program} {l : Launch} {e : Env} {s : State} {m : MethodId} {args : Array Value} {below : List Frame} {meth : Method} {c : Code} {D : va_G} {N0 : Nat} {gp : Nat → Nat} {X : x_X}
end
def wJ1_init (post : x_H → Prop) (p0 : Nat) (h : x_H) : Prop :=
  wJ0_init (∃ (t7 : Nat) (fs8 : List Value), h p0 = some (t7, .inr (7, fs8)) ∧ t7 ≠ 1 ∧ 0 < fs8.length ∧ ∀ h12 : x_H, h12 = x_hs h p0 t7 (.inr (7, fs8.set 0 (.int 0))) → post h12) p0 h
theorem kJ1_init (l : Launch) (D : va_G) (N0 : Nat) (gp : Nat → Nat) (X : x_X) (p0 : Nat) (h : x_H) (post : x_H → Prop) (hw : wJ1_init post p0 h) : Met l yJ1_init (ws_ yJ1_init cJ1_init 1 none) rmJ1_init (x_Pc D N0 gp X h [.ref p0]) (x_Qc D N0 (x_Vv (qJv X post))) 0 0 (x_A N0) := by
  refine x_startI (lv := [(0, .ref p0)]) (by decide) rfl (Nat.le_of_ble_eq_true rfl) rfl ?_
  intro p e s m below meth c C hin hR ls hl
  have hS : va_S (x_A N0) s.heap s.heap [] := va_S.rf
  obtain ⟨⟨hx, hb, hml, hown, hts⟩, hr, hlocks, hG, hN⟩ := id C
  unfold wJ1_init at hw
  refine lv_aload_n hx hb dJ1_init_0 rfl (lv_at hl 0 rfl) ?_
  refine x_callv0 (x_runI (n := 0) (As := []) (b := p0) C hR hS (kJ0_init l D N0 gp _ p0 h _ hw) q133 q86 q131 q132 rfl rfl rfl (by decide +kernel) ⟨Nat.le_of_ble_eq_true rfl, Nat.le_of_ble_eq_true rfl⟩ rfl hl.1 rfl (Nat.le_of_ble_eq_true rfl) dJ1_init_1 ⟨Nat.le_refl _, Nat.le_refl _⟩) hS (fun X1 h1 H locs hq hR hS => ?_)
  clear hw
  obtain ⟨e1, e2, hw⟩ := hq
  rw [e1, e2] at hR
  refine lv_aload_n hx hb dJ1_init_4 rfl (lv_at hl 0 rfl) ?_
  refine lv_iconst (v := 0) hx hb dJ1_init_5 (by decide) ?_
  obtain ⟨t7, fs8, he9, ht10, hl11, hw⟩ := hw
  refine x_putH (ci := 7) (Cn := RJ2) (T := TJ2) (N := 3) (v := .int 0) C hR hS he9 ht10 rfl in_J2 tyJ2_ok nmJ2 0 (by decide) q139 (fun _ h9 => h9) rfl rfl rfl hl11 dJ1_init_6 (fun H locs hR hS => ?_)
  obtain ⟨h12, eh12⟩ : ∃ z, z = x_hs h p0 t7 (.inr (7, fs8.set 0 (.int 0))) := ⟨_, rfl⟩
  rw [← eh12] at hR
  replace hw := hw h12 eh12
  exact x_endv C hR hS ⟨rfl, ⟨rfl, hw⟩⟩ (Nat.le_refl _) (Nat.le_refl _) dJ1_init_9
/-- java/util/ArrayList.<init>()V -/
abbrev rmJ2_init : Room := { frames := 3, cells := 0, slots := 0, locals := 52 }
section
variable {p : Program} {l : Launch} {e : Env} {s : State} {m : MethodId} {args : Array Value} {below : List Frame} {meth : Method} {c : Code} {D : va_G} {N0 : Nat} {gp : Nat → Nat} {X : x_X}
end
def wJ2_init (post : x_H → Prop) (gp : Nat → Nat) (p0 : Nat) (h : x_H) : Prop :=
  wJ1_init (fun h8 => ∃ (t9 : Nat) (fs10 : List Value), h8 p0 = some (t9, .inr (7, fs10)) ∧ t9 ≠ 1 ∧ 1 < fs10.length ∧ ∀ h14 : x_H, h14 = x_hs h8 p0 t9 (.inr (7, fs10.set 1 (.ref (gp 0)))) → post h14) p0 h
theorem kJ2_init (l : Launch) (D : va_G) (N0 : Nat) (gp : Nat → Nat) (X : x_X) (p0 : Nat) (h : x_H) (post : x_H → Prop) (hw : wJ2_init post gp p0 h) : Met l yJ2_init (ws_ yJ2_init cJ2_init 1 none) rmJ2_init (x_Pc D N0 gp X h [.ref p0]) (x_Qc D N0 (x_Vv (qJv X post))) 0 0 (x_A N0) := by
  refine x_startI (lv := [(0, .ref p0)]) (by decide) rfl (Nat.le_of_ble_eq_true rfl) rfl ?_
  intro p e s m below meth c C hin hR ls hl
  have hS : va_S (x_A N0) s.heap s.heap [] := va_S.rf
  obtain ⟨⟨hx, hb, hml, hown, hts⟩, hr, hlocks, hG, hN⟩ := id C
  unfold wJ2_init at hw
  refine lv_aload_n hx hb dJ2_init_0 rfl (lv_at hl 0 rfl) ?_
  refine x_callv0 (x_runI (n := 0) (As := []) (b := p0) C hR hS (kJ1_init l D N0 gp _ p0 h _ hw) q130 q87 q128 q129 rfl rfl rfl (by decide +kernel) ⟨Nat.le_of_ble_eq_true rfl, Nat.le_of_ble_eq_true rfl⟩ rfl hl.1 rfl (Nat.le_of_ble_eq_true rfl) dJ2_init_1 ⟨Nat.le_refl _, Nat.le_refl _⟩) hS (fun X1 h8 H locs hq hR hS => ?_)
  clear hw
  obtain ⟨e1, hw⟩ := hq
  rw [e1] at hR
  refine lv_aload_n hx hb dJ2_init_4 rfl (lv_at hl 0 rfl) ?_
  refine x_gets C hS hG.2.2.1.1 q135 dJ2_init_5 ?_
  obtain ⟨t9, fs10, he11, ht12, hl13, hw⟩ := hw
  refine x_putH (ci := 7) (Cn := RJ2) (T := TJ2) (N := 3) (v := .ref (gp 0)) C hR hS he11 ht12 rfl in_J2 tyJ2_ok nmJ2 1 (by decide) q137 (fun _ h9 => h9) rfl rfl rfl hl13 dJ2_init_8 (fun H locs hR hS => ?_)
  obtain ⟨h14, eh14⟩ : ∃ z, z = x_hs h8 p0 t9 (.inr (7, fs10.set 1 (.ref (gp 0)))) := ⟨_, rfl⟩
  rw [← eh14] at hR
  replace hw := hw h14 eh14
  exact x_endv C hR hS ⟨rfl, ⟨rfl, hw⟩⟩ (Nat.le_refl _) (Nat.le_refl _) dJ2_init_11
/-- java/lang/Record.<init>()V -/
abbrev rmJ3_init : Room := { frames := 1, cells := 0, slots := 0, locals := 12 }
section
variable {p : Program} {l : Launch} {e : Env} {s : State} {m : MethodId} {args : Array Value} {below : List Frame} {meth : Method} {c : Code} {D : va_G} {N0 : Nat} {gp : Nat → Nat} {X : x_X}
end
def wJ3_init (post : Prop) (p0 : Nat) (h : x_H) : Prop :=
  post
theorem kJ3_init (l : Launch) (D : va_G) (N0 : Nat) (gp : Nat → Nat) (X : x_X) (p0 : Nat) (h : x_H) (post : Prop) (hw : wJ3_init post p0 h ) : Met l yJ3_init (ws_ yJ3_init cJ3_init 1 none) rmJ3_init (x_Pc D N0 gp X h [.ref p0]) (x_Qc D N0 (x_Vv (qPv X h post))) 0 0 (x_A N0) := by
  refine x_startI (lv := [(0, .ref p0)]) (by decide) rfl (Nat.le_of_ble_eq_true rfl) rfl ?_
  intro p e s m below meth c C hin hR ls hl
  have hS : va_S (x_A N0) s.heap s.heap [] := va_S.rf
  obtain ⟨⟨hx, hb, hml, hown, hts⟩, hr, hlocks, hG, hN⟩ := id C
  unfold wJ3_init at hw
  refine lv_aload_n hx hb dJ3_init_0 rfl (lv_at hl 0 rfl) ?_
  refine x_objInit C q167 q121 q122 hl.1 dJ3_init_1 (Nat.le_of_ble_eq_true rfl) (Nat.le_of_ble_eq_true rfl) ?_
  exact x_endv C hR hS ⟨rfl, ⟨rfl, rfl, hw⟩⟩ (Nat.le_refl _) (Nat.le_refl _) dJ3_init_4
/-- jdk/internal/util/ArraysSupport.newLength(III)I -/
abbrev rmJ4_newLength : Room := { frames := 1, cells := 0, slots := 0, locals := 40 }
section
variable {p : Program} {l : Launch} {e : Env} {s : State} {m : MethodId} {args : Array Value} {below : List Frame} {meth : Method} {c : Code} {D : va_G} {N0 : Nat} {gp : Nat → Nat} {X : x_X} {h : x_H}
def wJ4_newLength_b21 (post : Int32 → Prop) (p0 : Int32) (p1 : Int32) (p2 : Int32) : Prop :=
  False
theorem kJ4_newLength_b21 {post : Int32 → Prop} {p0 : Int32} {p1 : Int32} {p2 : Int32} (C : x_C p s m args meth c cJ4_newLength 4 (some .int) RJ4 D N0 gp) {H : Heap} {locs : List Loc} {ls : Array Slot} (hR : x_R D s N0 X h H) (hS : va_S (x_A N0) s.heap H locs) (hl : lv_has ls 4 [(0, .int p0), (1, .int p1)]) (hw : wJ4_newLength_b21 post p0 p1 p2 ) : W p l e rmJ4_newLength s m args below meth c H locs 0 0 (MQ below (x_Qc D N0 (x_Vi (qPi X h post))) args s 0 0 (x_A N0)) (F0 m 21 ls []) := by
  obtain ⟨⟨hx, hb, hml, hown, hts⟩, hr, hlocks, hG, hN⟩ := id C
  unfold wJ4_newLength_b21 at hw
  refine lv_iload_n hx hb dJ4_newLength_21 rfl (lv_at hl 0 rfl) ?_
  refine lv_iload_n hx hb dJ4_newLength_22 rfl (lv_at hl 1 rfl) ?_
  exact False.elim hw
end
def wJ4_newLength (post : Int32 → Prop) (p0 : Int32) (p1 : Int32) (p2 : Int32) : Prop :=
  ((p0 + (if p1 < p2 then p2 else p1)) ≤ 0 → wJ4_newLength_b21 post p0 p1 p2 ) ∧ (¬ (p0 + (if p1 < p2 then p2 else p1)) ≤ 0 → ((2147483639 : Int32) < (p0 + (if p1 < p2 then p2 else p1)) → wJ4_newLength_b21 post p0 p1 p2 ) ∧ (¬ (2147483639 : Int32) < (p0 + (if p1 < p2 then p2 else p1)) → post (p0 + (if p1 < p2 then p2 else p1)) ))
theorem kJ4_newLength (l : Launch) (D : va_G) (N0 : Nat) (gp : Nat → Nat) (X : x_X) (h : x_H) (p0 : Int32) (p1 : Int32) (p2 : Int32) (post : Int32 → Prop) (hw : wJ4_newLength post p0 p1 p2 ) : Met l yJ4_newLength (ws_ yJ4_newLength cJ4_newLength 4 (some .int)) rmJ4_newLength (x_Pc D N0 gp X h [.int p0, .int p1, .int p2]) (x_Qc D N0 (x_Vi (qPi X h post))) 0 0 (x_A N0) := by
  refine x_start (lv := [(0, .int p0), (1, .int p1), (2, .int p2)]) (by decide) rfl (Nat.le_of_ble_eq_true rfl) rfl ?_
  intro p e s m below meth c C hR ls hl
  have hS : va_S (x_A N0) s.heap s.heap [] := va_S.rf
  obtain ⟨⟨hx, hb, hml, hown, hts⟩, hr, hlocks, hG, hN⟩ := id C
  unfold wJ4_newLength at hw
  refine lv_iload_n hx hb dJ4_newLength_0 rfl (lv_at hl 0 rfl) ?_
  refine lv_iload_n hx hb dJ4_newLength_1 rfl (lv_at hl 1 rfl) ?_
  refine lv_iload_n hx hb dJ4_newLength_2 rfl (lv_at hl 2 rfl) ?_
  refine va_mmax hx hb (hml.trans hl.1.symm) hown (hts _ q195) (hts _ q196) (hts _ q93) (hts _ q197) (Nat.le_of_ble_eq_true rfl) (Nat.le_of_ble_eq_true rfl) (Nat.le_refl _) (Nat.le_refl _) dJ4_newLength_3 ?_
  refine lv_iadd hx hb dJ4_newLength_6 ?_
  refine lv_istore_n (lv' := [(3, .int (p0 + (if p1 < p2 then p2 else p1))), (0, .int p0), (1, .int p1), (2, .int p2)]) hx hb dJ4_newLength_7 rfl hl (by decide) rfl (fun ls hl => ?_)
  refine lv_iconst (v := 0) hx hb dJ4_newLength_8 (by decide) ?_
  refine lv_iload_n hx hb dJ4_newLength_9 rfl (lv_at hl 0 rfl) ?_
  refine lv_icmp_ge (tgt := 21) hx hb dJ4_newLength_10 (by decide) (fun c3 => ?_) (fun c3 => ?_)
  · replace hw := hw.1 c3
    exact kJ4_newLength_b21 C hR hS (lv_sub hl [1, 2] rfl) hw
  · replace hw := hw.2 c3
    refine lv_iload_n hx hb dJ4_newLength_13 rfl (lv_at hl 0 rfl) ?_
    refine lv_ldc hx hb hown (hts _ q198) dJ4_newLength_14 ?_
    refine lv_icmp_gt (tgt := 21) hx hb dJ4_newLength_16 (by decide) (fun c4 => ?_) (fun c4 => ?_)
    · replace hw := hw.1 c4
      exact kJ4_newLength_b21 C hR hS (lv_sub hl [1, 2] rfl) hw
    · replace hw := hw.2 c4
      refine lv_iload_n hx hb dJ4_newLength_19 rfl (lv_at hl 0 rfl) ?_
      exact x_endi C hR hS ⟨_, rfl, ⟨rfl, rfl, hw⟩⟩ (Nat.le_refl _) (Nat.le_refl _) dJ4_newLength_20
/-- java/util/Arrays.copyOf([Ljava/lang/Object;ILjava/lang/Class;)[Ljava/lang/Object; -/
abbrev rmJ6_copyOf_2 (mc0 ms0 : Nat) : Room := { frames := 1, cells := mc0, slots := ms0, locals := 40 }
section
variable {p : Program} {l : Launch} {e : Env} {s : State} {m : MethodId} {args : Array Value} {below : List Frame} {meth : Method} {c : Code} {D : va_G} {N0 : Nat} {gp : Nat → Nat} {X : x_X} {mc0 ms0 : Nat}
end
def wJ6_copyOf_2 (post : Option Nat → x_H → Prop) (gp : Nat → Nat) (p0 : Nat) (p1 : Int32) (p2 : Nat) (h : x_H) (mc : Nat) (ms : Nat) : Prop :=
  ((some p2) = (some (gp 2)) → ∃ mc33 ms34 : Nat, 1 + mc33 ≤ mc ∧ p1.toNatClampNeg + ms34 ≤ ms ∧ ¬ p1 < 0 ∧ p1.toNatClampNeg * 4 ≤ 536870912 ∧ ∀ q37 : Nat, h q37 = none → ∃ t38 : Nat, t38 ≠ 1 ∧ ∀ h41 : x_H, h41 = x_hs h q37 t38 (.inl (.object "java/lang/Object", (p1.toNatClampNeg, .inr (.inr (.inr (.inr (fun _ => none))))))) → ∃ (t42 : Nat) (ty43 : FieldType) (x44 : vp_A), h41 p0 = some (t42, .inl (ty43, x44)) ∧ ∃ (t48 n50 : Nat) (f46 : Nat → Option Nat) (t49 n51 : Nat) (f47 : Nat → Option Nat), h41 p0 = some (t48, .inl (.object "java/lang/Object", (n50, .inr (.inr (.inr (.inr f46)))))) ∧ t48 ≠ 1 ∧ h41 q37 = some (t49, .inl (.object "java/lang/Object", (n51, .inr (.inr (.inr (.inr f47)))))) ∧ t49 ≠ 1 ∧ ¬ (0 : Int32) < 0 ∧ ¬ (0 : Int32) < 0 ∧ ¬ (if p1 < (nI x44.1) then p1 else (nI x44.1)) < 0 ∧ (0 : Int32).toNatClampNeg + (if p1 < (nI x44.1) then p1 else (nI x44.1)).toNatClampNeg ≤ n50 ∧ (0 : Int32).toNatClampNeg + (if p1 < (nI x44.1) then p1 else (nI x44.1)).toNatClampNeg ≤ n51 ∧ (∀ i : Nat, i < (if p1 < (nI x44.1) then p1 else (nI x44.1)).toNatClampNeg → ∀ y : Nat, f46 ((0 : Int32).toNatClampNeg + i) = some y → x_el h41 y) ∧ ∀ h62 : x_H, h62 = x_hs h41 q37 t49 (.inl (.object "java/lang/Object", (n51, .inr (.inr (.inr (.inr (va_cpy f46 f47 (0 : Int32).toNatClampNeg (0 : Int32).toNatClampNeg (if p1 < (nI x44.1) then p1 else (nI x44.1)).toNatClampNeg))))))) → post (some q37) h62) ∧ (¬ (some p2) = (some (gp 2)) → False)
theorem kJ6_copyOf_2 (l : Launch) (D : va_G) (N0 : Nat) (gp : Nat → Nat) (X : x_X) (p0 : Nat) (p1 : Int32) (p2 : Nat) (h : x_H) (mc : Nat) (ms : Nat) (post : Option Nat → x_H → Prop) (hw : wJ6_copyOf_2 post gp p0 p1 p2 h mc ms) : Met l yJ6_copyOf_2 (ws_ yJ6_copyOf_2 cJ6_copyOf_2 4 (some (.array (.object "java/lang/Object")))) (rmJ6_copyOf_2 mc ms) (x_Pc D N0 gp X h [.ref p0, .int p1, .ref p2]) (x_Qc D N0 (x_Va (qJa X post))) mc ms (x_A N0) := by
  refine x_start (lv := [(0, .ref p0), (1, .int p1), (2, .ref p2)]) (by decide) rfl (Nat.le_of_ble_eq_true rfl) rfl ?_
  intro p e s m below meth c C hR ls hl
  have hS : va_S (x_A N0) s.heap s.heap [] := va_S.rf
  obtain ⟨⟨hx, hb, hml, hown, hts⟩, hr, hlocks, hG, hN⟩ := id C
  unfold wJ6_copyOf_2 at hw
  have hk : 0 + mc ≤ mc := Nat.le_of_eq (Nat.zero_add _)
  have hn : 0 + ms ≤ ms := Nat.le_of_eq (Nat.zero_add _)
  refine lv_aload_n hx hb dJ6_copyOf_2_0 rfl (lv_at hl 2 rfl) ?_
  refine x_ldcM C q225 dJ6_copyOf_2_1 ?_
  refine lv_acmp_ne (rx := (some p2)) (ry := (some (gp 2))) (tgt := 13) hx hb dJ6_copyOf_2_3 (by decide) (fun c32 => ?_) (fun c32 => ?_)
  · replace hw := hw.2 c32
    refine lv_aload_n hx hb dJ6_copyOf_2_13 rfl (lv_at hl 2 rfl) ?_
    exact False.elim hw
  · replace hw := hw.1 c32
    refine lv_iload_n hx hb dJ6_copyOf_2_6 rfl (lv_at hl 1 rfl) ?_
    obtain ⟨mc33, ms34, hmc33, hms34, hw⟩ := hw
    obtain ⟨g35, g36, hw⟩ := hw
    refine x_newQ C hR hS q227 q226 g35 g36 (x_bud hk hmc33) (x_bud hn hms34) dJ6_copyOf_2_7 (fun q37 H hq39 hRn hS => ?_)
    obtain ⟨t38, ht40, hw⟩ := hw q37 hq39
    have hR := hRn t38 ht40
    obtain ⟨h41, eh41⟩ : ∃ z, z = x_hs h q37 t38 (.inl (.object "java/lang/Object", (p1.toNatClampNeg, .inr (.inr (.inr (.inr (fun _ => none))))))) := ⟨_, rfl⟩
    rw [← eh41] at hR
    replace hw := hw h41 eh41
    have hk := x_budN hk hmc33
    have hn := x_budN hn hms34
    refine lv_goto (tgt := 24) hx hb dJ6_copyOf_2_10 (by decide) ?_
    refine lv_astore_n (lv' := [(3, .ref q37), (0, .ref p0), (1, .int p1), (2, .ref p2)]) hx hb dJ6_copyOf_2_24 rfl hl (by decide) rfl (fun ls hl => ?_)
    refine lv_aload_n hx hb dJ6_copyOf_2_25 rfl (lv_at hl 1 rfl) ?_
    refine lv_iconst (v := 0) hx hb dJ6_copyOf_2_26 (by decide) ?_
    refine lv_aload_n hx hb dJ6_copyOf_2_27 rfl (lv_at hl 0 rfl) ?_
    refine lv_iconst (v := 0) hx hb dJ6_copyOf_2_28 (by decide) ?_
    refine lv_aload_n hx hb dJ6_copyOf_2_29 rfl (lv_at hl 1 rfl) ?_
    obtain ⟨t42, ty43, x44, he45, hw⟩ := hw
    refine x_alen C (hR.rdH he45) dJ6_copyOf_2_30 ?_
    refine lv_iload_n hx hb dJ6_copyOf_2_31 rfl (lv_at hl 2 rfl) ?_
    refine va_mmin hx hb (hml.trans hl.1.symm) hown (hts _ q228) (hts _ q229) (hts _ q93) (hts _ q230) (Nat.le_of_ble_eq_true rfl) (Nat.le_of_ble_eq_true rfl) (x_le hk) (x_le hn) dJ6_copyOf_2_32 ?_
    obtain ⟨t48, n50, f46, t49, n51, f47, he52, ht54, he53, ht55, g56, g57, g58, g59, g60, g61, hw⟩ := hw
    refine x_copyQ C hR hS q231 q233 q232 q95 he52 ht54 he53 ht55 g56 g57 g58 g59 g60 g61 hl.1 (Nat.le_of_ble_eq_true rfl) (Nat.le_of_ble_eq_true rfl) dJ6_copyOf_2_35 (fun H locs hR hS => ?_)
    obtain ⟨h62, eh62⟩ : ∃ z, z = x_hs h41 q37 t49 (.inl (.object "java/lang/Object", (n51, .inr (.inr (.inr (.inr (va_cpy f46 f47 (0 : Int32).toNatClampNeg (0 : Int32).toNatClampNeg (if p1 < (nI x44.1) then p1 else (nI x44.1)).toNatClampNeg))))))) := ⟨_, rfl⟩
    rw [← eh62] at hR
    replace hw := hw h62 eh62
    refine lv_aload_n hx hb dJ6_copyOf_2_38 rfl (lv_at hl 0 rfl) ?_
    exact x_enda (v := (some q37)) C (Or.inr ⟨_, rfl⟩) hR hS ⟨_, rfl, ⟨rfl, hw⟩⟩ (x_le hk) (x_le hn) dJ6_copyOf_2_39
/-- java/util/Arrays.copyOf([Ljava/lang/Object;I)[Ljava/lang/Object; -/
abbrev rmJ6_copyOf (mc0 ms0 : Nat) : Room := { frames := 2, cells := mc0, slots := ms0, locals := 63 }
section
variable {p : Program} {l : Launch} {e : Env} {s : State} {m : MethodId} {args : Array Value} {below : List Frame} {meth : Method} {c : Code} {D : va_G} {N0 : Nat} {gp : Nat → Nat} {X : x_X} {mc0 ms0 : Nat}
end
def wJ6_copyOf (post : Option Nat → x_H → Prop) (gp : Nat → Nat) (p0 : Nat) (p1 : Int32) (h : x_H) (mc : Nat) (ms : Nat) : Prop :=
  ∃ (t11 : Nat) (x12 : vp_A), h p0 = some (t11, .inl (.object "java/lang/Object", x12)) ∧ t11 ≠ 1 ∧ ∃ ca16 cb17 mc18 ms19 : Nat, ca16 + mc18 ≤ mc ∧ cb17 + ms19 ≤ ms ∧ wJ6_copyOf_2 (fun r15 h20 => post r15 h20) gp p0 p1 (gp 2) h ca16 cb17
theorem kJ6_copyOf (l : Launch) (D : va_G) (N0 : Nat) (gp : Nat → Nat) (X : x_X) (p0 : Nat) (p1 : Int32) (h : x_H) (mc : Nat) (ms : Nat) (post : Option Nat → x_H → Prop) (hw : wJ6_copyOf post gp p0 p1 h mc ms) : Met l yJ6_copyOf (ws_ yJ6_copyOf cJ6_copyOf 2 (some (.array (.object "java/lang/Object")))) (rmJ6_copyOf mc ms) (x_Pc D N0 gp X h [.ref p0, .int p1]) (x_Qc D N0 (x_Va (qJa X post))) mc ms (x_A N0) := by
  refine x_start (lv := [(0, .ref p0), (1, .int p1)]) (by decide) rfl (Nat.le_of_ble_eq_true rfl) rfl ?_
  intro p e s m below meth c C hR ls hl
  have hS : va_S (x_A N0) s.heap s.heap [] := va_S.rf
  obtain ⟨⟨hx, hb, hml, hown, hts⟩, hr, hlocks, hG, hN⟩ := id C
  unfold wJ6_copyOf at hw
  have hk : 0 + mc ≤ mc := Nat.le_of_eq (Nat.zero_add _)
  have hn : 0 + ms ≤ ms := Nat.le_of_eq (Nat.zero_add _)
  refine lv_aload_n hx hb dJ6_copyOf_0 rfl (lv_at hl 0 rfl) ?_
  refine lv_iload_n hx hb dJ6_copyOf_1 rfl (lv_at hl 1 rfl) ?_
  refine lv_aload_n hx hb dJ6_copyOf_2 rfl (lv_at hl 0 rfl) ?_
  obtain ⟨t11, x12, he13, ht14, hw⟩ := hw
  refine x_getCls C hR he13 ht14 q205 q1608 q1607 q206 q221 hl.1 (Nat.le_of_ble_eq_true rfl) (Nat.le_of_ble_eq_true rfl) dJ6_copyOf_3 ?_
  obtain ⟨ca16, cb17, mc18, ms19, hca16, hcb17, hw⟩ := hw
  refine x_calla (x_runS (n := 3) (As := [.ref p0, .int p1, .ref (gp 2)]) C hR hS (kJ6_copyOf_2 l D N0 gp _ p0 p1 (gp 2) h ca16 cb17 _ hw) (lw_S q222 q223 q94 q224) rfl rfl (by decide +kernel) ⟨Nat.le_of_ble_eq_true rfl, Nat.le_of_ble_eq_true rfl⟩ rfl hl.1 rfl (Nat.le_of_ble_eq_true rfl) dJ6_copyOf_6 ⟨x_bud hk hca16, x_bud hn hcb17⟩) hS (fun r15 X1 h20 H locs hq hR hS => ?_)
  clear hw
  obtain ⟨e1, hw⟩ := hq
  rw [e1] at hR
  have hk := x_budN hk hca16
  have hn := x_budN hn hcb17
  exact x_enda (v := r15) C (Or.inr ⟨_, rfl⟩) hR hS ⟨_, rfl, ⟨rfl, hw⟩⟩ (x_le hk) (x_le hn) dJ6_copyOf_9
/-- java/util/ArrayList.grow(I)[Ljava/lang/Object; -/
abbrev rmJ2_grow_2 (mc0 ms0 : Nat) : Room := { frames := 3, cells := mc0, slots := ms0, locals := 84 }
section
variable {p : Program} {l : Launch} {e : Env} {s : State} {m : MethodId} {args : Array Value} {below : List Frame} {meth : Method} {c : Code} {D : va_G} {N0 : Nat} {gp : Nat → Nat} {X : x_X} {mc0 ms0 : Nat}
def wJ2_grow_2_b20 (post : Option Nat → x_H → Prop) (gp : Nat → Nat) (p0 : Nat) (p1 : Int32) (h : x_H) (mc : Nat) (ms : Nat) (x2 : Int32) : Prop :=
  wJ4_newLength (fun r69 => ∃ v71 : Option Nat, x_f h p0 7 1 (va_rf v71) ∧ ∃ a72 : Nat, v71 = some a72 ∧ ∃ ca74 cb75 mc76 ms77 : Nat, ca74 + mc76 ≤ mc ∧ cb75 + ms77 ≤ ms ∧ wJ6_copyOf (fun r73 h78 => ∃ (t79 : Nat) (fs80 : List Value), h78 p0 = some (t79, .inr (7, fs80)) ∧ t79 ≠ 1 ∧ 1 < fs80.length ∧ ∀ h84 : x_H, h84 = x_hs h78 p0 t79 (.inr (7, fs80.set 1 (va_rf r73))) → post r73 h84) gp a72 r69 h ca74 cb75) x2 (p1 - x2) (x2 >>> ((1 : Int32) &&& 31))
theorem kJ2_grow_2_b20 {post : Option Nat → x_H → Prop} {p0 : Nat} {p1 : Int32} (C : x_C p s m args meth c cJ2_grow_2 4 (some (.array (.object "java/lang/Object"))) RJ2 D N0 gp) {h : x_H} {mc : Nat} {ms : Nat} {x2 : Int32} {k n : Nat} {H : Heap} {locs : List Loc} {ls : Array Slot} (hR : x_R D s N0 X h H) (hS : va_S (x_A N0) s.heap H locs) (hk : k + mc ≤ mc0) (hn : n + ms ≤ ms0) (hl : lv_has ls 4 [(0, .ref p0), (1, .int p1), (2, .int x2)]) (hw : wJ2_grow_2_b20 post gp p0 p1 h mc ms x2) : W p l e (rmJ2_grow_2 mc0 ms0) s m args below meth c H locs k n (MQ below (x_Qc D N0 (x_Va (qJa X post))) args s mc0 ms0 (x_A N0)) (F0 m 20 ls []) := by
  obtain ⟨⟨hx, hb, hml, hown, hts⟩, hr, hlocks, hG, hN⟩ := id C
  unfold wJ2_grow_2_b20 at hw
  refine lv_iload_n hx hb dJ2_grow_2_20 rfl (lv_at hl 2 rfl) ?_
  refine lv_iload_n hx hb dJ2_grow_2_21 rfl (lv_at hl 1 rfl) ?_
  refine lv_iload_n hx hb dJ2_grow_2_22 rfl (lv_at hl 2 rfl) ?_
  refine lv_isub hx hb dJ2_grow_2_23 ?_
  refine lv_iload_n hx hb dJ2_grow_2_24 rfl (lv_at hl 2 rfl) ?_
  refine lv_iconst (v := 1) hx hb dJ2_grow_2_25 (by decide) ?_
  refine lv_ishr hx hb dJ2_grow_2_26 ?_
  refine x_calli0 (x_runS (n := 3) (As := [.int x2, .int (p1 - x2), .int (x2 >>> ((1 : Int32) &&& 31))]) C hR hS (kJ4_newLength l D N0 gp _ _ x2 (p1 - x2) (x2 >>> ((1 : Int32) &&& 31)) _ hw) (lw_S q192 q193 q92 q194) rfl rfl (by decide +kernel) ⟨Nat.le_of_ble_eq_true rfl, Nat.le_of_ble_eq_true rfl⟩ rfl hl.1 rfl (Nat.le_of_ble_eq_true rfl) dJ2_grow_2_27 ⟨x_bud0 hk, x_bud0 hn⟩) hS (fun r69 X1 h1 H locs hq hR hS => ?_)
  clear hw
  obtain ⟨e1, e2, hw⟩ := hq
  rw [e1, e2] at hR
  refine lv_istore_n (lv' := [(3, .int r69), (0, .ref p0), (1, .int p1), (2, .int x2)]) hx hb dJ2_grow_2_30 rfl hl (by decide) rfl (fun ls hl => ?_)
  refine lv_aload_n hx hb dJ2_grow_2_31 rfl (lv_at hl 1 rfl) ?_
  refine lv_aload_n hx hb dJ2_grow_2_32 rfl (lv_at hl 1 rfl) ?_
  obtain ⟨v71, hf70, hw⟩ := hw
  refine x_getH (ci := 7) (Cn := RJ2) (T := TJ2) (N := 3) (k := 1) C hR hf70 rfl in_J2 (by decide) q137 (fun _ h9 => h9) dJ2_grow_2_33 ?_
  refine lv_iload_n hx hb dJ2_grow_2_36 rfl (lv_at hl 0 rfl) ?_
  obtain ⟨a72, ea72, hw⟩ := hw
  rw [ea72]
  obtain ⟨ca74, cb75, mc76, ms77, hca74, hcb75, hw⟩ := hw
  refine x_calla (x_runS (n := 2) (As := [.ref a72, .int r69]) C hR hS (kJ6_copyOf l D N0 gp _ a72 r69 h ca74 cb75 _ hw) (lw_S q202 q203 q94 q204) rfl rfl (by decide +kernel) ⟨Nat.le_of_ble_eq_true rfl, Nat.le_of_ble_eq_true rfl⟩ rfl hl.1 rfl (Nat.le_of_ble_eq_true rfl) dJ2_grow_2_37 ⟨x_bud hk hca74, x_bud hn hcb75⟩) hS (fun r73 X1 h78 H locs hq hR hS => ?_)
  clear hw
  obtain ⟨e1, hw⟩ := hq
  rw [e1] at hR
  have hk := x_budN hk hca74
  have hn := x_budN hn hcb75
  refine lv_dup_x1 hx hb dJ2_grow_2_40 (x_cat1 _) rfl ?_
  obtain ⟨t79, fs80, he81, ht82, hl83, hw⟩ := hw
  refine x_putH (ci := 7) (Cn := RJ2) (T := TJ2) (N := 3) (v := va_rf r73) C hR hS he81 ht82 rfl in_J2 tyJ2_ok nmJ2 1 (by decide) q137 (fun _ h9 => h9) rfl (x_narA _ _) (x_fitA _ _) hl83 dJ2_grow_2_41 (fun H locs hR hS => ?_)
  obtain ⟨h84, eh84⟩ : ∃ z, z = x_hs h78 p0 t79 (.inr (7, fs80.set 1 (va_rf r73))) := ⟨_, rfl⟩
  rw [← eh84] at hR
  replace hw := hw h84 eh84
  exact x_enda (v := r73) C (Or.inr ⟨_, rfl⟩) hR hS ⟨_, rfl, ⟨rfl, hw⟩⟩ (x_le hk) (x_le hn) dJ2_grow_2_44
end
def wJ2_grow_2 (post : Option Nat → x_H → Prop) (gp : Nat → Nat) (p0 : Nat) (p1 : Int32) (h : x_H) (mc : Nat) (ms : Nat) : Prop :=
  ∃ v44 : Option Nat, x_f h p0 7 1 (va_rf v44) ∧ ∃ a45 : Nat, v44 = some a45 ∧ ∃ (t46 : Nat) (ty47 : FieldType) (x48 : vp_A), h a45 = some (t46, .inl (ty47, x48)) ∧ (0 < (nI x48.1) → wJ2_grow_2_b20 post gp p0 p1 h mc ms (nI x48.1)) ∧ (¬ 0 < (nI x48.1) → ∃ v52 : Option Nat, x_f h p0 7 1 (va_rf v52) ∧ (v52 = (some (gp 0)) → ∃ mc54 ms55 : Nat, 1 + mc54 ≤ mc ∧ (if (10 : Int32) < p1 then p1 else (10 : Int32)).toNatClampNeg + ms55 ≤ ms ∧ ¬ (if (10 : Int32) < p1 then p1 else (10 : Int32)) < 0 ∧ (if (10 : Int32) < p1 then p1 else (10 : Int32)).toNatClampNeg * 4 ≤ 536870912 ∧ ∀ q58 : Nat, h q58 = none → ∃ t59 : Nat, t59 ≠ 1 ∧ ∀ h62 : x_H, h62 = x_hs h q58 t59 (.inl (.object "java/lang/Object", ((if (10 : Int32) < p1 then p1 else (10 : Int32)).toNatClampNeg, .inr (.inr (.inr (.inr (fun _ => none))))))) → ∃ (t63 : Nat) (fs64 : List Value), h62 p0 = some (t63, .inr (7, fs64)) ∧ t63 ≠ 1 ∧ 1 < fs64.length ∧ ∀ h68 : x_H, h68 = x_hs h62 p0 t63 (.inr (7, fs64.set 1 (.ref q58))) → post (some q58) h68) ∧ (¬ v52 = (some (gp 0)) → wJ2_grow_2_b20 post gp p0 p1 h mc ms (nI x48.1)))
theorem kJ2_grow_2 (l : Launch) (D : va_G) (N0 : Nat) (gp : Nat → Nat) (X : x_X) (p0 : Nat) (p1 : Int32) (h : x_H) (mc : Nat) (ms : Nat) (post : Option Nat → x_H → Prop) (hw : wJ2_grow_2 post gp p0 p1 h mc ms) : Met l yJ2_grow_2 (ws_ yJ2_grow_2 cJ2_grow_2 4 (some (.array (.object "java/lang/Object")))) (rmJ2_grow_2 mc ms) (x_Pc D N0 gp X h [.ref p0, .int p1]) (x_Qc D N0 (x_Va (qJa X post))) mc ms (x_A N0) := by
  refine x_start (lv := [(0, .ref p0), (1, .int p1)]) (by decide) rfl (Nat.le_of_ble_eq_true rfl) rfl ?_
  intro p e s m below meth c C hR ls hl
  have hS : va_S (x_A N0) s.heap s.heap [] := va_S.rf
  obtain ⟨⟨hx, hb, hml, hown, hts⟩, hr, hlocks, hG, hN⟩ := id C
  unfold wJ2_grow_2 at hw
  have hk : 0 + mc ≤ mc := Nat.le_of_eq (Nat.zero_add _)
  have hn : 0 + ms ≤ ms := Nat.le_of_eq (Nat.zero_add _)
  refine lv_aload_n hx hb dJ2_grow_2_0 rfl (lv_at hl 0 rfl) ?_
  obtain ⟨v44, hf43, hw⟩ := hw
  refine x_getH (ci := 7) (Cn := RJ2) (T := TJ2) (N := 3) (k := 1) C hR hf43 rfl in_J2 (by decide) q137 (fun _ h9 => h9) dJ2_grow_2_1 ?_
  obtain ⟨a45, ea45, hw⟩ := hw
  rw [ea45]
  obtain ⟨t46, ty47, x48, he49, hw⟩ := hw
  refine x_alen C (hR.rdH he49) dJ2_grow_2_4 ?_
  refine lv_istore_n (lv' := [(2, .int (nI x48.1)), (0, .ref p0), (1, .int p1)]) hx hb dJ2_grow_2_5 rfl hl (by decide) rfl (fun ls hl => ?_)
  refine lv_iload_n hx hb dJ2_grow_2_6 rfl (lv_at hl 0 rfl) ?_
  refine lv_if_gt (tgt := 20) hx hb dJ2_grow_2_7 (by decide) (fun c50 => ?_) (fun c50 => ?_)
  · replace hw := hw.1 c50
    exact kJ2_grow_2_b20 C hR hS hk hn (lv_sub hl [1, 2, 0] rfl) hw
  · replace hw := hw.2 c50
    refine lv_aload_n hx hb dJ2_grow_2_10 rfl (lv_at hl 1 rfl) ?_
    obtain ⟨v52, hf51, hw⟩ := hw
    refine x_getH (ci := 7) (Cn := RJ2) (T := TJ2) (N := 3) (k := 1) C hR hf51 rfl in_J2 (by decide) q137 (fun _ h9 => h9) dJ2_grow_2_11 ?_
    refine x_gets C hS hG.2.2.1.1 q135 dJ2_grow_2_14 ?_
    refine lv_acmp_eq (rx := v52) (ry := (some (gp 0))) (tgt := 45) hx hb dJ2_grow_2_17 (by decide) (fun c53 => ?_) (fun c53 => ?_)
    · replace hw := hw.1 c53
      refine lv_aload_n hx hb dJ2_grow_2_45 rfl (lv_at hl 1 rfl) ?_
      refine lv_bipush (v := 10) hx hb dJ2_grow_2_46 (by decide) ?_
      refine lv_iload_n hx hb dJ2_grow_2_48 rfl (lv_at hl 2 rfl) ?_
      refine va_mmax hx hb (hml.trans hl.1.symm) hown (hts _ q234) (hts _ q196) (hts _ q93) (hts _ q197) (Nat.le_of_ble_eq_true rfl) (Nat.le_of_ble_eq_true rfl) (x_le hk) (x_le hn) dJ2_grow_2_49 ?_
      obtain ⟨mc54, ms55, hmc54, hms55, hw⟩ := hw
      obtain ⟨g56, g57, hw⟩ := hw
      refine x_newQ C hR hS q235 q226 g56 g57 (x_bud hk hmc54) (x_bud hn hms55) dJ2_grow_2_52 (fun q58 H hq60 hRn hS => ?_)
      obtain ⟨t59, ht61, hw⟩ := hw q58 hq60
      have hR := hRn t59 ht61
      obtain ⟨h62, eh62⟩ : ∃ z, z = x_hs h q58 t59 (.inl (.object "java/lang/Object", ((if (10 : Int32) < p1 then p1 else (10 : Int32)).toNatClampNeg, .inr (.inr (.inr (.inr (fun _ => none))))))) := ⟨_, rfl⟩
      rw [← eh62] at hR
      replace hw := hw h62 eh62
      have hk := x_budN hk hmc54
      have hn := x_budN hn hms55
      refine lv_dup_x1 hx hb dJ2_grow_2_55 rfl rfl ?_
      obtain ⟨t63, fs64, he65, ht66, hl67, hw⟩ := hw
      refine x_putH (ci := 7) (Cn := RJ2) (T := TJ2) (N := 3) (v := .ref q58) C hR hS he65 ht66 rfl in_J2 tyJ2_ok nmJ2 1 (by decide) q137 (fun _ h9 => h9) rfl rfl rfl hl67 dJ2_grow_2_56 (fun H locs hR hS => ?_)
      obtain ⟨h68, eh68⟩ : ∃ z, z = x_hs h62 p0 t63 (.inr (7, fs64.set 1 (.ref q58))) := ⟨_, rfl⟩
      rw [← eh68] at hR
      replace hw := hw h68 eh68
      exact x_enda (v := (some q58)) C (Or.inr ⟨_, rfl⟩) hR hS ⟨_, rfl, ⟨rfl, hw⟩⟩ (x_le hk) (x_le hn) dJ2_grow_2_59
    · replace hw := hw.2 c53
      exact kJ2_grow_2_b20 C hR hS hk hn (lv_sub hl [1, 2, 0] rfl) hw
/-- java/util/ArrayList.grow()[Ljava/lang/Object; -/
abbrev rmJ2_grow (mc0 ms0 : Nat) : Room := { frames := 4, cells := mc0, slots := ms0, locals := 107 }
section
variable {p : Program} {l : Launch} {e : Env} {s : State} {m : MethodId} {args : Array Value} {below : List Frame} {meth : Method} {c : Code} {D : va_G} {N0 : Nat} {gp : Nat → Nat} {X : x_X} {mc0 ms0 : Nat}
end
def wJ2_grow (post : Option Nat → x_H → Prop) (gp : Nat → Nat) (p0 : Nat) (h : x_H) (mc : Nat) (ms : Nat) : Prop :=
  ∃ y13 : Int32, x_f h p0 7 2 (.int y13) ∧ ∃ (t20 : Nat) (fs21 : List Value), h p0 = some (t20, .inr (7, fs21)) ∧ ∃ ca15 cb16 mc17 ms18 : Nat, ca15 + mc17 ≤ mc ∧ cb16 + ms18 ≤ ms ∧ wJ2_grow_2 (fun r14 h19 => post r14 h19) gp p0 (y13 + 1) h ca15 cb16
theorem kJ2_grow (l : Launch) (D : va_G) (N0 : Nat) (gp : Nat → Nat) (X : x_X) (p0 : Nat) (h : x_H) (mc : Nat) (ms : Nat) (post : Option Nat → x_H → Prop) (hw : wJ2_grow post gp p0 h mc ms) : Met l yJ2_grow (ws_ yJ2_grow cJ2_grow 1 (some (.array (.object "java/lang/Object")))) (rmJ2_grow mc ms) (x_Pc D N0 gp X h [.ref p0]) (x_Qc D N0 (x_Va (qJa X post))) mc ms (x_A N0) := by
  refine x_start (lv := [(0, .ref p0)]) (by decide) rfl (Nat.le_of_ble_eq_true rfl) rfl ?_
  intro p e s m below meth c C hR ls hl
  have hS : va_S (x_A N0) s.heap s.heap [] := va_S.rf
  obtain ⟨⟨hx, hb, hml, hown, hts⟩, hr, hlocks, hG, hN⟩ := id C
  unfold wJ2_grow at hw
  have hk : 0 + mc ≤ mc := Nat.le_of_eq (Nat.zero_add _)
  have hn : 0 + ms ≤ ms := Nat.le_of_eq (Nat.zero_add _)
  refine lv_aload_n hx hb dJ2_grow_0 rfl (lv_at hl 0 rfl) ?_
  refine lv_aload_n hx hb dJ2_grow_1 rfl (lv_at hl 0 rfl) ?_
  obtain ⟨y13, hf12, hw⟩ := hw
  refine x_getH (ci := 7) (Cn := RJ2) (T := TJ2) (N := 3) (k := 2) C hR hf12 rfl in_J2 (by decide) q138 (fun _ h9 => h9) dJ2_grow_2 ?_
  refine lv_iconst (v := 1) hx hb dJ2_grow_5 (by decide) ?_
  refine lv_iadd hx hb dJ2_grow_6 ?_
  obtain ⟨t20, fs21, he22, hw⟩ := hw
  obtain ⟨ca15, cb16, mc17, ms18, hca15, hcb16, hw⟩ := hw
  refine x_calla (x_runV (n := 1) (As := [.int (y13 + 1)]) C hR hS (kJ2_grow_2 l D N0 gp _ p0 (y13 + 1) h ca15 cb16 _ hw) (lw_V q188 q190 qs2 q88 q191) rfl rfl (by decide +kernel) ⟨Nat.le_of_ble_eq_true rfl, Nat.le_of_ble_eq_true rfl⟩ (x_recv C (hR.rdH he22) rfl) rfl hl.1 rfl (Nat.le_of_ble_eq_true rfl) dJ2_grow_7 ⟨x_bud hk hca15, x_bud hn hcb16⟩) hS (fun r14 X1 h19 H locs hq hR hS => ?_)
  clear hw
  obtain ⟨e1, hw⟩ := hq
  rw [e1] at hR
  have hk := x_budN hk hca15
  have hn := x_budN hn hcb16
  exact x_enda (v := r14) C (Or.inr ⟨_, rfl⟩) hR hS ⟨_, rfl, ⟨rfl, hw⟩⟩ (x_le hk) (x_le hn) dJ2_grow_10
/-- java/util/ArrayList.add(Ljava/lang/Object;[Ljava/lang/Object;I)V -/
abbrev rmJ2_add_2 (mc0 ms0 : Nat) : Room := { frames := 5, cells := mc0, slots := ms0, locals := 127 }
section
variable {p : Program} {l : Launch} {e : Env} {s : State} {m : MethodId} {args : Array Value} {below : List Frame} {meth : Method} {c : Code} {D : va_G} {N0 : Nat} {gp : Nat → Nat} {X : x_X} {mc0 ms0 : Nat}
def wJ2_add_2_b11 (post : x_H → Prop) (gp : Nat → Nat) (p0 : Nat) (p1 : Nat) (p2 : Nat) (p3 : Int32) (h : x_H) (mc : Nat) (ms : Nat) (x2 : Option Nat) : Prop :=
  ∃ a44 : Nat, x2 = some a44 ∧ ∃ (t45 n46 : Nat) (f47 : Nat → Option Nat), h a44 = some (t45, .inl (.object "java/lang/Object", (n46, .inr (.inr (.inr (.inr f47)))))) ∧ t45 ≠ 1 ∧ vp_in p3 n46 ∧ x_el h p1 ∧ ∀ h52 : x_H, h52 = x_hs h a44 t45 (.inl (.object "java/lang/Object", (n46, .inr (.inr (.inr (.inr (va_up f47 p3.toNatClampNeg (some p1)))))))) → ∃ (t53 : Nat) (fs54 : List Value), h52 p0 = some (t53, .inr (7, fs54)) ∧ t53 ≠ 1 ∧ 2 < fs54.length ∧ ∀ h58 : x_H, h58 = x_hs h52 p0 t53 (.inr (7, fs54.set 2 (.int (p3 + 1)))) → post h58
theorem kJ2_add_2_b11 {post : x_H → Prop} {p0 : Nat} {p1 : Nat} {p2 : Nat} {p3 : Int32} (C : x_C p s m args meth c cJ2_add_2 4 none RJ2 D N0 gp) {h : x_H} {mc : Nat} {ms : Nat} {x2 : Option Nat} {k n : Nat} {H : Heap} {locs : List Loc} {ls : Array Slot} (hR : x_R D s N0 X h H) (hS : va_S (x_A N0) s.heap H locs) (hk : k + mc ≤ mc0) (hn : n + ms ≤ ms0) (hl : lv_has ls 4 [(0, .ref p0), (1, .ref p1), (2, va_rf x2), (3, .int p3)]) (hw : wJ2_add_2_b11 post gp p0 p1 p2 p3 h mc ms x2) : W p l e (rmJ2_add_2 mc0 ms0) s m args below meth c H locs k n (MQ below (x_Qc D N0 (x_Vv (qJv X post))) args s mc0 ms0 (x_A N0)) (F0 m 11 ls []) := by
  obtain ⟨⟨hx, hb, hml, hown, hts⟩, hr, hlocks, hG, hN⟩ := id C
  unfold wJ2_add_2_b11 at hw
  refine x_aload_nO hx hb dJ2_add_2_11 rfl (lv_at hl 2 rfl) ?_
  refine lv_iload_n hx hb dJ2_add_2_12 rfl (lv_at hl 3 rfl) ?_
  refine lv_aload_n hx hb dJ2_add_2_13 rfl (lv_at hl 1 rfl) ?_
  obtain ⟨a44, ea44, hw⟩ := hw
  rw [ea44]
  obtain ⟨t45, n46, f47, he48, ht49, b50, el51, hw⟩ := hw
  refine x_aastH C hR hS he48 ht49 b50 el51 dJ2_add_2_14 (fun H locs hR hS => ?_)
  obtain ⟨h52, eh52⟩ : ∃ z, z = x_hs h a44 t45 (.inl (.object "java/lang/Object", (n46, .inr (.inr (.inr (.inr (va_up f47 p3.toNatClampNeg (some p1)))))))) := ⟨_, rfl⟩
  rw [← eh52] at hR
  replace hw := hw h52 eh52
  refine lv_aload_n hx hb dJ2_add_2_15 rfl (lv_at hl 0 rfl) ?_
  refine lv_iload_n hx hb dJ2_add_2_16 rfl (lv_at hl 3 rfl) ?_
  refine lv_iconst (v := 1) hx hb dJ2_add_2_17 (by decide) ?_
  refine lv_iadd hx hb dJ2_add_2_18 ?_
  obtain ⟨t53, fs54, he55, ht56, hl57, hw⟩ := hw
  refine x_putH (ci := 7) (Cn := RJ2) (T := TJ2) (N := 3) (v := .int (p3 + 1)) C hR hS he55 ht56 rfl in_J2 tyJ2_ok nmJ2 2 (by decide) q138 (fun _ h9 => h9) rfl rfl rfl hl57 dJ2_add_2_19 (fun H locs hR hS => ?_)
  obtain ⟨h58, eh58⟩ : ∃ z, z = x_hs h52 p0 t53 (.inr (7, fs54.set 2 (.int (p3 + 1)))) := ⟨_, rfl⟩
  rw [← eh58] at hR
  replace hw := hw h58 eh58
  exact x_endv C hR hS ⟨rfl, ⟨rfl, hw⟩⟩ (x_le hk) (x_le hn) dJ2_add_2_22
end
def wJ2_add_2 (post : x_H → Prop) (gp : Nat → Nat) (p0 : Nat) (p1 : Nat) (p2 : Nat) (p3 : Int32) (h : x_H) (mc : Nat) (ms : Nat) : Prop :=
  ∃ (t30 : Nat) (ty31 : FieldType) (x32 : vp_A), h p2 = some (t30, .inl (ty31, x32)) ∧ (p3 = (nI x32.1) → ∃ (t41 : Nat) (fs42 : List Value), h p0 = some (t41, .inr (7, fs42)) ∧ ∃ ca36 cb37 mc38 ms39 : Nat, ca36 + mc38 ≤ mc ∧ cb37 + ms39 ≤ ms ∧ wJ2_grow (fun r35 h40 => wJ2_add_2_b11 post gp p0 p1 p2 p3 h40 mc38 ms39 r35) gp p0 h ca36 cb37) ∧ (¬ p3 = (nI x32.1) → wJ2_add_2_b11 post gp p0 p1 p2 p3 h mc ms (some p2))
theorem kJ2_add_2 (l : Launch) (D : va_G) (N0 : Nat) (gp : Nat → Nat) (X : x_X) (p0 : Nat) (p1 : Nat) (p2 : Nat) (p3 : Int32) (h : x_H) (mc : Nat) (ms : Nat) (post : x_H → Prop) (hw : wJ2_add_2 post gp p0 p1 p2 p3 h mc ms) : Met l yJ2_add_2 (ws_ yJ2_add_2 cJ2_add_2 4 none) (rmJ2_add_2 mc ms) (x_Pc D N0 gp X h [.ref p0, .ref p1, .ref p2, .int p3]) (x_Qc D N0 (x_Vv (qJv X post))) mc ms (x_A N0) := by
  refine x_start (lv := [(0, .ref p0), (1, .ref p1), (2, .ref p2), (3, .int p3)]) (by decide) rfl (Nat.le_of_ble_eq_true rfl) rfl ?_
  intro p e s m below meth c C hR ls hl
  have hS : va_S (x_A N0) s.heap s.heap [] := va_S.rf
  obtain ⟨⟨hx, hb, hml, hown, hts⟩, hr, hlocks, hG, hN⟩ := id C
  unfold wJ2_add_2 at hw
  have hk : 0 + mc ≤ mc := Nat.le_of_eq (Nat.zero_add _)
  have hn : 0 + ms ≤ ms := Nat.le_of_eq (Nat.zero_add _)
  refine lv_iload_n hx hb dJ2_add_2_0 rfl (lv_at hl 3 rfl) ?_
  refine lv_aload_n hx hb dJ2_add_2_1 rfl (lv_at hl 2 rfl) ?_
  obtain ⟨t30, ty31, x32, he33, hw⟩ := hw
  refine x_alen C (hR.rdH he33) dJ2_add_2_2 ?_
  refine lv_icmp_ne (tgt := 11) hx hb dJ2_add_2_3 (by decide) (fun c34 => ?_) (fun c34 => ?_)
  · replace hw := hw.2 c34
    exact kJ2_add_2_b11 C hR hS hk hn (lv_sub hl [0, 1, 2, 3] rfl) hw
  · replace hw := hw.1 c34
    refine lv_aload_n hx hb dJ2_add_2_6 rfl (lv_at hl 0 rfl) ?_
    obtain ⟨t41, fs42, he43, hw⟩ := hw
    obtain ⟨ca36, cb37, mc38, ms39, hca36, hcb37, hw⟩ := hw
    refine x_calla (x_runV (n := 0) (As := []) C hR hS (kJ2_grow l D N0 gp _ p0 h ca36 cb37 _ hw) (lw_V q184 q186 qs1 q88 q187) rfl rfl (by decide +kernel) ⟨Nat.le_of_ble_eq_true rfl, Nat.le_of_ble_eq_true rfl⟩ (x_recv C (hR.rdH he43) rfl) rfl hl.1 rfl (Nat.le_of_ble_eq_true rfl) dJ2_add_2_7 ⟨x_bud hk hca36, x_bud hn hcb37⟩) hS (fun r35 X1 h40 H locs hq hR hS => ?_)
    clear hw
    obtain ⟨e1, hw⟩ := hq
    rw [e1] at hR
    have hk := x_budN hk hca36
    have hn := x_budN hn hcb37
    refine x_astore_nO (lv' := [(2, va_rf r35), (0, .ref p0), (1, .ref p1), (3, .int p3)]) hx hb dJ2_add_2_10 rfl hl (by decide) rfl (fun ls hl => ?_)
    exact kJ2_add_2_b11 C hR hS hk hn (lv_sub hl [1, 2, 0, 3] rfl) hw
/-- java/util/ArrayList.add(Ljava/lang/Object;)Z -/
abbrev rmJ2_add (mc0 ms0 : Nat) : Room := { frames := 6, cells := mc0, slots := ms0, locals := 150 }
section
variable {p : Program} {l : Launch} {e : Env} {s : State} {m : MethodId} {args : Array Value} {below : List Frame} {meth : Method} {c : Code} {D : va_G} {N0 : Nat} {gp : Nat → Nat} {X : x_X} {mc0 ms0 : Nat}
end
def wJ2_add (post : Int32 → x_H → Prop) (gp : Nat → Nat) (p0 : Nat) (p1 : Nat) (h : x_H) (mc : Nat) (ms : Nat) : Prop :=
  ∃ y23 : Int32, x_f h p0 7 0 (.int y23) ∧ ∃ (t24 : Nat) (fs25 : List Value), h p0 = some (t24, .inr (7, fs25)) ∧ t24 ≠ 1 ∧ 0 < fs25.length ∧ ∀ h29 : x_H, h29 = x_hs h p0 t24 (.inr (7, fs25.set 0 (.int (y23 + 1)))) → ∃ v31 : Option Nat, x_f h29 p0 7 1 (va_rf v31) ∧ ∃ y33 : Int32, x_f h29 p0 7 2 (.int y33) ∧ ∃ a34 : Nat, v31 = some a34 ∧ ∃ (t40 : Nat) (fs41 : List Value), h29 p0 = some (t40, .inr (7, fs41)) ∧ ∃ ca35 cb36 mc37 ms38 : Nat, ca35 + mc37 ≤ mc ∧ cb36 + ms38 ≤ ms ∧ wJ2_add_2 (fun h39 => post 1 h39) gp p0 p1 a34 y33 h29 ca35 cb36
theorem kJ2_add (l : Launch) (D : va_G) (N0 : Nat) (gp : Nat → Nat) (X : x_X) (p0 : Nat) (p1 : Nat) (h : x_H) (mc : Nat) (ms : Nat) (post : Int32 → x_H → Prop) (hw : wJ2_add post gp p0 p1 h mc ms) : Met l yJ2_add (ws_ yJ2_add cJ2_add 2 (some .boolean)) (rmJ2_add mc ms) (x_Pc D N0 gp X h [.ref p0, .ref p1]) (x_Qc D N0 (x_Vi (qJi X post))) mc ms (x_A N0) := by
  refine x_start (lv := [(0, .ref p0), (1, .ref p1)]) (by decide) rfl (Nat.le_of_ble_eq_true rfl) rfl ?_
  intro p e s m below meth c C hR ls hl
  have hS : va_S (x_A N0) s.heap s.heap [] := va_S.rf
  obtain ⟨⟨hx, hb, hml, hown, hts⟩, hr, hlocks, hG, hN⟩ := id C
  unfold wJ2_add at hw
  have hk : 0 + mc ≤ mc := Nat.le_of_eq (Nat.zero_add _)
  have hn : 0 + ms ≤ ms := Nat.le_of_eq (Nat.zero_add _)
  refine lv_aload_n hx hb dJ2_add_0 rfl (lv_at hl 0 rfl) ?_
  refine lv_dup hx hb dJ2_add_1 rfl ?_
  obtain ⟨y23, hf22, hw⟩ := hw
  refine x_getH (ci := 7) (Cn := RJ2) (T := TJ2) (N := 3) (k := 0) C hR hf22 rfl in_J2 (by decide) q140 (fun x h9 => u_same (hts _ q141) x h9) dJ2_add_2 ?_
  refine lv_iconst (v := 1) hx hb dJ2_add_5 (by decide) ?_
  refine lv_iadd hx hb dJ2_add_6 ?_
  obtain ⟨t24, fs25, he26, ht27, hl28, hw⟩ := hw
  refine x_putH (ci := 7) (Cn := RJ2) (T := TJ2) (N := 3) (v := .int (y23 + 1)) C hR hS he26 ht27 rfl in_J2 tyJ2_ok nmJ2 0 (by decide) q140 (fun x h9 => u_same (hts _ q141) x h9) rfl rfl rfl hl28 dJ2_add_7 (fun H locs hR hS => ?_)
  obtain ⟨h29, eh29⟩ : ∃ z, z = x_hs h p0 t24 (.inr (7, fs25.set 0 (.int (y23 + 1)))) := ⟨_, rfl⟩
  rw [← eh29] at hR
  replace hw := hw h29 eh29
  refine lv_aload_n hx hb dJ2_add_10 rfl (lv_at hl 0 rfl) ?_
  refine lv_aload_n hx hb dJ2_add_11 rfl (lv_at hl 1 rfl) ?_
  refine lv_aload_n hx hb dJ2_add_12 rfl (lv_at hl 0 rfl) ?_
  obtain ⟨v31, hf30, hw⟩ := hw
  refine x_getH (ci := 7) (Cn := RJ2) (T := TJ2) (N := 3) (k := 1) C hR hf30 rfl in_J2 (by decide) q137 (fun _ h9 => h9) dJ2_add_13 ?_
  refine lv_aload_n hx hb dJ2_add_16 rfl (lv_at hl 0 rfl) ?_
  obtain ⟨y33, hf32, hw⟩ := hw
  refine x_getH (ci := 7) (Cn := RJ2) (T := TJ2) (N := 3) (k := 2) C hR hf32 rfl in_J2 (by decide) q138 (fun _ h9 => h9) dJ2_add_17 ?_
  obtain ⟨a34, ea34, hw⟩ := hw
  rw [ea34]
  obtain ⟨t40, fs41, he42, hw⟩ := hw
  obtain ⟨ca35, cb36, mc37, ms38, hca35, hcb36, hw⟩ := hw
  refine x_callv (x_runV (n := 3) (As := [.ref p1, .ref a34, .int y33]) C hR hS (kJ2_add_2 l D N0 gp _ p0 p1 a34 y33 h29 ca35 cb36 _ hw) (lw_V q180 q182 qs0 q88 q183) rfl rfl (by decide +kernel) ⟨Nat.le_of_ble_eq_true rfl, Nat.le_of_ble_eq_true rfl⟩ (x_recv C (hR.rdH he42) rfl) rfl hl.1 rfl (Nat.le_of_ble_eq_true rfl) dJ2_add_20 ⟨x_bud hk hca35, x_bud hn hcb36⟩) hS (fun X1 h39 H locs hq hR hS => ?_)
  clear hw
  obtain ⟨e1, hw⟩ := hq
  rw [e1] at hR
  have hk := x_budN hk hca35
  have hn := x_budN hn hcb36
  refine lv_iconst (v := 1) hx hb dJ2_add_23 (by decide) ?_
  exact x_endz C hR hS rfl ⟨_, rfl, ⟨rfl, hw⟩⟩ (x_le hk) (x_le hn) dJ2_add_24
/-- java/util/ArrayList.size()I -/
abbrev rmJ2_size : Room := { frames := 0, cells := 0, slots := 0, locals := 0 }
section
variable {p : Program} {l : Launch} {e : Env} {s : State} {m : MethodId} {args : Array Value} {below : List Frame} {meth : Method} {c : Code} {D : va_G} {N0 : Nat} {gp : Nat → Nat} {X : x_X}
end
def wJ2_size (post : Int32 → Prop) (p0 : Nat) (h : x_H) : Prop :=
  ∃ y4 : Int32, x_f h p0 7 2 (.int y4) ∧ post y4 
theorem kJ2_size (l : Launch) (D : va_G) (N0 : Nat) (gp : Nat → Nat) (X : x_X) (p0 : Nat) (h : x_H) (post : Int32 → Prop) (hw : wJ2_size post p0 h ) : Met l yJ2_size (ws_ yJ2_size cJ2_size 1 (some .int)) rmJ2_size (x_Pc D N0 gp X h [.ref p0]) (x_Qc D N0 (x_Vi (qPi X h post))) 0 0 (x_A N0) := by
  refine x_start (lv := [(0, .ref p0)]) (by decide) rfl (Nat.le_of_ble_eq_true rfl) rfl ?_
  intro p e s m below meth c C hR ls hl
  have hS : va_S (x_A N0) s.heap s.heap [] := va_S.rf
  obtain ⟨⟨hx, hb, hml, hown, hts⟩, hr, hlocks, hG, hN⟩ := id C
  unfold wJ2_size at hw
  refine lv_aload_n hx hb dJ2_size_0 rfl (lv_at hl 0 rfl) ?_
  obtain ⟨y4, hf3, hw⟩ := hw
  refine x_getH (ci := 7) (Cn := RJ2) (T := TJ2) (N := 3) (k := 2) C hR hf3 rfl in_J2 (by decide) q138 (fun _ h9 => h9) dJ2_size_1 ?_
  exact x_endi C hR hS ⟨_, rfl, ⟨rfl, rfl, hw⟩⟩ (Nat.le_refl _) (Nat.le_refl _) dJ2_size_4
/-- jdk/internal/util/Preconditions.checkIndex(IILjava/util/function/BiFunction;)I -/
abbrev rmJ12_checkIndex : Room := { frames := 0, cells := 0, slots := 0, locals := 0 }
section
variable {p : Program} {l : Launch} {e : Env} {s : State} {m : MethodId} {args : Array Value} {below : List Frame} {meth : Method} {c : Code} {D : va_G} {N0 : Nat} {gp : Nat → Nat} {X : x_X} {h : x_H}
def wJ12_checkIndex_b9 (post : Int32 → Prop) (p0 : Int32) (p1 : Int32) (p2 : Option Nat) : Prop :=
  False
theorem kJ12_checkIndex_b9 {post : Int32 → Prop} {p0 : Int32} {p1 : Int32} {p2 : Option Nat} (C : x_C p s m args meth c cJ12_checkIndex 3 (some .int) RJ12 D N0 gp) {H : Heap} {locs : List Loc} {ls : Array Slot} (hR : x_R D s N0 X h H) (hS : va_S (x_A N0) s.heap H locs) (hl : lv_has ls 3 [(0, .int p0), (1, .int p1), (2, va_rf p2)]) (hw : wJ12_checkIndex_b9 post p0 p1 p2 ) : W p l e rmJ12_checkIndex s m args below meth c H locs 0 0 (MQ below (x_Qc D N0 (x_Vi (qPi X h post))) args s 0 0 (x_A N0)) (F0 m 9 ls []) := by
  obtain ⟨⟨hx, hb, hml, hown, hts⟩, hr, hlocks, hG, hN⟩ := id C
  unfold wJ12_checkIndex_b9 at hw
  refine x_aload_nO hx hb dJ12_checkIndex_9 rfl (lv_at hl 2 rfl) ?_
  refine lv_iload_n hx hb dJ12_checkIndex_10 rfl (lv_at hl 0 rfl) ?_
  refine lv_iload_n hx hb dJ12_checkIndex_11 rfl (lv_at hl 1 rfl) ?_
  exact False.elim hw
end
def wJ12_checkIndex (post : Int32 → Prop) (p0 : Int32) (p1 : Int32) (p2 : Option Nat) : Prop :=
  (p0 < 0 → wJ12_checkIndex_b9 post p0 p1 p2 ) ∧ (¬ p0 < 0 → (p0 < p1 → post p0 ) ∧ (¬ p0 < p1 → wJ12_checkIndex_b9 post p0 p1 p2 ))
theorem kJ12_checkIndex (l : Launch) (D : va_G) (N0 : Nat) (gp : Nat → Nat) (X : x_X) (h : x_H) (p0 : Int32) (p1 : Int32) (p2 : Option Nat) (post : Int32 → Prop) (hw : wJ12_checkIndex post p0 p1 p2 ) : Met l yJ12_checkIndex (ws_ yJ12_checkIndex cJ12_checkIndex 3 (some .int)) rmJ12_checkIndex (x_Pc D N0 gp X h [.int p0, .int p1, va_rf p2]) (x_Qc D N0 (x_Vi (qPi X h post))) 0 0 (x_A N0) := by
  refine x_start (lv := [(0, .int p0), (1, .int p1), (2, va_rf p2)]) (by decide) rfl (by cases p2 <;> exact Nat.le_of_ble_eq_true rfl) (by cases p2 <;> rfl) ?_
  intro p e s m below meth c C hR ls hl
  have hS : va_S (x_A N0) s.heap s.heap [] := va_S.rf
  obtain ⟨⟨hx, hb, hml, hown, hts⟩, hr, hlocks, hG, hN⟩ := id C
  unfold wJ12_checkIndex at hw
  refine lv_iload_n hx hb dJ12_checkIndex_0 rfl (lv_at hl 0 rfl) ?_
  refine lv_if_lt (tgt := 9) hx hb dJ12_checkIndex_1 (by decide) (fun c3 => ?_) (fun c3 => ?_)
  · replace hw := hw.1 c3
    exact kJ12_checkIndex_b9 C hR hS (lv_sub hl [0, 1, 2] rfl) hw
  · replace hw := hw.2 c3
    refine lv_iload_n hx hb dJ12_checkIndex_4 rfl (lv_at hl 0 rfl) ?_
    refine lv_iload_n hx hb dJ12_checkIndex_5 rfl (lv_at hl 1 rfl) ?_
    refine lv_icmp_lt (tgt := 16) hx hb dJ12_checkIndex_6 (by decide) (fun c4 => ?_) (fun c4 => ?_)
    · replace hw := hw.1 c4
      refine lv_iload_n hx hb dJ12_checkIndex_16 rfl (lv_at hl 0 rfl) ?_
      exact x_endi C hR hS ⟨_, rfl, ⟨rfl, rfl, hw⟩⟩ (Nat.le_refl _) (Nat.le_refl _) dJ12_checkIndex_17
    · replace hw := hw.2 c4
      exact kJ12_checkIndex_b9 C hR hS (lv_sub hl [0, 1, 2] rfl) hw
/-- java/util/Objects.checkIndex(II)I -/
abbrev rmJ11_checkIndex : Room := { frames := 1, cells := 0, slots := 0, locals := 22 }
section
variable {p : Program} {l : Launch} {e : Env} {s : State} {m : MethodId} {args : Array Value} {below : List Frame} {meth : Method} {c : Code} {D : va_G} {N0 : Nat} {gp : Nat → Nat} {X : x_X} {h : x_H}
end
def wJ11_checkIndex (post : Int32 → Prop) (p0 : Int32) (p1 : Int32) : Prop :=
  wJ12_checkIndex (fun r2 => post r2 ) p0 p1 none
theorem kJ11_checkIndex (l : Launch) (D : va_G) (N0 : Nat) (gp : Nat → Nat) (X : x_X) (h : x_H) (p0 : Int32) (p1 : Int32) (post : Int32 → Prop) (hw : wJ11_checkIndex post p0 p1 ) : Met l yJ11_checkIndex (ws_ yJ11_checkIndex cJ11_checkIndex 2 (some .int)) rmJ11_checkIndex (x_Pc D N0 gp X h [.int p0, .int p1]) (x_Qc D N0 (x_Vi (qPi X h post))) 0 0 (x_A N0) := by
  refine x_start (lv := [(0, .int p0), (1, .int p1)]) (by decide) rfl (Nat.le_of_ble_eq_true rfl) rfl ?_
  intro p e s m below meth c C hR ls hl
  have hS : va_S (x_A N0) s.heap s.heap [] := va_S.rf
  obtain ⟨⟨hx, hb, hml, hown, hts⟩, hr, hlocks, hG, hN⟩ := id C
  unfold wJ11_checkIndex at hw
  refine lv_iload_n hx hb dJ11_checkIndex_0 rfl (lv_at hl 0 rfl) ?_
  refine lv_iload_n hx hb dJ11_checkIndex_1 rfl (lv_at hl 1 rfl) ?_
  refine lv_null hx hb dJ11_checkIndex_2 ?_
  refine x_calli0 (x_runS (n := 3) (As := [.int p0, .int p1, .null]) C hR hS (kJ12_checkIndex l D N0 gp _ _ p0 p1 none _ hw) (lw_S q369 q370 q103 q371) rfl rfl (by decide +kernel) ⟨Nat.le_of_ble_eq_true rfl, Nat.le_of_ble_eq_true rfl⟩ rfl hl.1 rfl (Nat.le_of_ble_eq_true rfl) dJ11_checkIndex_3 ⟨Nat.le_refl _, Nat.le_refl _⟩) hS (fun r2 X1 h1 H locs hq hR hS => ?_)
  clear hw
  obtain ⟨e1, e2, hw⟩ := hq
  rw [e1, e2] at hR
  exact x_endi C hR hS ⟨_, rfl, ⟨rfl, rfl, hw⟩⟩ (Nat.le_refl _) (Nat.le_refl _) dJ11_checkIndex_6
/-- java/util/ArrayList.fastRemove([Ljava/lang/Object;I)V -/
abbrev rmJ2_fastRemove : Room := { frames := 1, cells := 0, slots := 0, locals := 40 }
section
variable {p : Program} {l : Launch} {e : Env} {s : State} {m : MethodId} {args : Array Value} {below : List Frame} {meth : Method} {c : Code} {D : va_G} {N0 : Nat} {gp : Nat → Nat} {X : x_X}
def wJ2_fastRemove_b34 (post : x_H → Prop) (p0 : Nat) (p1 : Nat) (p2 : Int32) (h : x_H) (x3 : Int32) : Prop :=
  ∃ (t71 : Nat) (fs72 : List Value), h p0 = some (t71, .inr (7, fs72)) ∧ t71 ≠ 1 ∧ 2 < fs72.length ∧ ∀ h76 : x_H, h76 = x_hs h p0 t71 (.inr (7, fs72.set 2 (.int x3))) → ∃ (t77 n78 : Nat) (f79 : Nat → Option Nat), h76 p1 = some (t77, .inl (.object "java/lang/Object", (n78, .inr (.inr (.inr (.inr f79)))))) ∧ t77 ≠ 1 ∧ vp_in x3 n78 ∧ ∀ h84 : x_H, h84 = x_hs h76 p1 t77 (.inl (.object "java/lang/Object", (n78, .inr (.inr (.inr (.inr (va_up f79 x3.toNatClampNeg none))))))) → post h84
theorem kJ2_fastRemove_b34 {post : x_H → Prop} {p0 : Nat} {p1 : Nat} {p2 : Int32} (C : x_C p s m args meth c cJ2_fastRemove 4 none RJ2 D N0 gp) {h : x_H} {x3 : Int32} {H : Heap} {locs : List Loc} {ls : Array Slot} (hR : x_R D s N0 X h H) (hS : va_S (x_A N0) s.heap H locs) (hl : lv_has ls 4 [(0, .ref p0), (1, .ref p1), (3, .int x3)]) (hw : wJ2_fastRemove_b34 post p0 p1 p2 h x3) : W p l e rmJ2_fastRemove s m args below meth c H locs 0 0 (MQ below (x_Qc D N0 (x_Vv (qJv X post))) args s 0 0 (x_A N0)) (F0 m 34 ls []) := by
  obtain ⟨⟨hx, hb, hml, hown, hts⟩, hr, hlocks, hG, hN⟩ := id C
  unfold wJ2_fastRemove_b34 at hw
  refine lv_aload_n hx hb dJ2_fastRemove_34 rfl (lv_at hl 1 rfl) ?_
  refine lv_aload_n hx hb dJ2_fastRemove_35 rfl (lv_at hl 0 rfl) ?_
  refine lv_iload_n hx hb dJ2_fastRemove_36 rfl (lv_at hl 2 rfl) ?_
  refine lv_dup_x1 hx hb dJ2_fastRemove_37 rfl rfl ?_
  obtain ⟨t71, fs72, he73, ht74, hl75, hw⟩ := hw
  refine x_putH (ci := 7) (Cn := RJ2) (T := TJ2) (N := 3) (v := .int x3) C hR hS he73 ht74 rfl in_J2 tyJ2_ok nmJ2 2 (by decide) q138 (fun _ h9 => h9) rfl rfl rfl hl75 dJ2_fastRemove_38 (fun H locs hR hS => ?_)
  obtain ⟨h76, eh76⟩ : ∃ z, z = x_hs h p0 t71 (.inr (7, fs72.set 2 (.int x3))) := ⟨_, rfl⟩
  rw [← eh76] at hR
  replace hw := hw h76 eh76
  refine lv_null hx hb dJ2_fastRemove_41 ?_
  obtain ⟨t77, n78, f79, he80, ht81, b82, hw⟩ := hw
  refine x_aastN C hR hS he80 ht81 b82 dJ2_fastRemove_42 (fun H locs hR hS => ?_)
  obtain ⟨h84, eh84⟩ : ∃ z, z = x_hs h76 p1 t77 (.inl (.object "java/lang/Object", (n78, .inr (.inr (.inr (.inr (va_up f79 x3.toNatClampNeg none))))))) := ⟨_, rfl⟩
  rw [← eh84] at hR
  replace hw := hw h84 eh84
  exact x_endv C hR hS ⟨rfl, ⟨rfl, hw⟩⟩ (Nat.le_refl _) (Nat.le_refl _) dJ2_fastRemove_43
end
def wJ2_fastRemove (post : x_H → Prop) (p0 : Nat) (p1 : Nat) (p2 : Int32) (h : x_H) : Prop :=
  ∃ y44 : Int32, x_f h p0 7 0 (.int y44) ∧ ∃ (t45 : Nat) (fs46 : List Value), h p0 = some (t45, .inr (7, fs46)) ∧ t45 ≠ 1 ∧ 0 < fs46.length ∧ ∀ h50 : x_H, h50 = x_hs h p0 t45 (.inr (7, fs46.set 0 (.int (y44 + 1)))) → ∃ y52 : Int32, x_f h50 p0 7 2 (.int y52) ∧ ((y52 - 1) ≤ p2 → wJ2_fastRemove_b34 post p0 p1 p2 h50 (y52 - 1)) ∧ (¬ (y52 - 1) ≤ p2 → ∃ (t56 n58 : Nat) (f54 : Nat → Option Nat) (t57 n59 : Nat) (f55 : Nat → Option Nat), h50 p1 = some (t56, .inl (.object "java/lang/Object", (n58, .inr (.inr (.inr (.inr f54)))))) ∧ t56 ≠ 1 ∧ h50 p1 = some (t57, .inl (.object "java/lang/Object", (n59, .inr (.inr (.inr (.inr f55)))))) ∧ t57 ≠ 1 ∧ ¬ (p2 + 1) < 0 ∧ ¬ p2 < 0 ∧ ¬ ((y52 - 1) - p2) < 0 ∧ (p2 + 1).toNatClampNeg + ((y52 - 1) - p2).toNatClampNeg ≤ n58 ∧ p2.toNatClampNeg + ((y52 - 1) - p2).toNatClampNeg ≤ n59 ∧ (∀ i : Nat, i < ((y52 - 1) - p2).toNatClampNeg → ∀ y : Nat, f54 ((p2 + 1).toNatClampNeg + i) = some y → x_el h50 y) ∧ ∀ h70 : x_H, h70 = x_hs h50 p1 t57 (.inl (.object "java/lang/Object", (n59, .inr (.inr (.inr (.inr (va_cpy f54 f55 (p2 + 1).toNatClampNeg p2.toNatClampNeg ((y52 - 1) - p2).toNatClampNeg))))))) → wJ2_fastRemove_b34 post p0 p1 p2 h70 (y52 - 1))
theorem kJ2_fastRemove (l : Launch) (D : va_G) (N0 : Nat) (gp : Nat → Nat) (X : x_X) (p0 : Nat) (p1 : Nat) (p2 : Int32) (h : x_H) (post : x_H → Prop) (hw : wJ2_fastRemove post p0 p1 p2 h) : Met l yJ2_fastRemove (ws_ yJ2_fastRemove cJ2_fastRemove 4 none) rmJ2_fastRemove (x_Pc D N0 gp X h [.ref p0, .ref p1, .int p2]) (x_Qc D N0 (x_Vv (qJv X post))) 0 0 (x_A N0) := by
  refine x_start (lv := [(0, .ref p0), (1, .ref p1), (2, .int p2)]) (by decide) rfl (Nat.le_of_ble_eq_true rfl) rfl ?_
  intro p e s m below meth c C hR ls hl
  have hS : va_S (x_A N0) s.heap s.heap [] := va_S.rf
  obtain ⟨⟨hx, hb, hml, hown, hts⟩, hr, hlocks, hG, hN⟩ := id C
  unfold wJ2_fastRemove at hw
  refine lv_aload_n hx hb dJ2_fastRemove_0 rfl (lv_at hl 0 rfl) ?_
  refine lv_dup hx hb dJ2_fastRemove_1 rfl ?_
  obtain ⟨y44, hf43, hw⟩ := hw
  refine x_getH (ci := 7) (Cn := RJ2) (T := TJ2) (N := 3) (k := 0) C hR hf43 rfl in_J2 (by decide) q140 (fun x h9 => u_same (hts _ q141) x h9) dJ2_fastRemove_2 ?_
  refine lv_iconst (v := 1) hx hb dJ2_fastRemove_5 (by decide) ?_
  refine lv_iadd hx hb dJ2_fastRemove_6 ?_
  obtain ⟨t45, fs46, he47, ht48, hl49, hw⟩ := hw
  refine x_putH (ci := 7) (Cn := RJ2) (T := TJ2) (N := 3) (v := .int (y44 + 1)) C hR hS he47 ht48 rfl in_J2 tyJ2_ok nmJ2 0 (by decide) q140 (fun x h9 => u_same (hts _ q141) x h9) rfl rfl rfl hl49 dJ2_fastRemove_7 (fun H locs hR hS => ?_)
  obtain ⟨h50, eh50⟩ : ∃ z, z = x_hs h p0 t45 (.inr (7, fs46.set 0 (.int (y44 + 1)))) := ⟨_, rfl⟩
  rw [← eh50] at hR
  replace hw := hw h50 eh50
  refine lv_aload_n hx hb dJ2_fastRemove_10 rfl (lv_at hl 0 rfl) ?_
  obtain ⟨y52, hf51, hw⟩ := hw
  refine x_getH (ci := 7) (Cn := RJ2) (T := TJ2) (N := 3) (k := 2) C hR hf51 rfl in_J2 (by decide) q138 (fun _ h9 => h9) dJ2_fastRemove_11 ?_
  refine lv_iconst (v := 1) hx hb dJ2_fastRemove_14 (by decide) ?_
  refine lv_isub hx hb dJ2_fastRemove_15 ?_
  refine lv_dup hx hb dJ2_fastRemove_16 rfl ?_
  refine lv_istore_n (lv' := [(3, .int (y52 - 1)), (0, .ref p0), (1, .ref p1), (2, .int p2)]) hx hb dJ2_fastRemove_17 rfl hl (by decide) rfl (fun ls hl => ?_)
  refine lv_iload_n hx hb dJ2_fastRemove_18 rfl (lv_at hl 3 rfl) ?_
  refine lv_icmp_le (tgt := 34) hx hb dJ2_fastRemove_19 (by decide) (fun c53 => ?_) (fun c53 => ?_)
  · replace hw := hw.1 c53
    exact kJ2_fastRemove_b34 C hR hS (lv_sub hl [1, 2, 0] rfl) hw
  · replace hw := hw.2 c53
    refine lv_aload_n hx hb dJ2_fastRemove_22 rfl (lv_at hl 2 rfl) ?_
    refine lv_iload_n hx hb dJ2_fastRemove_23 rfl (lv_at hl 3 rfl) ?_
    refine lv_iconst (v := 1) hx hb dJ2_fastRemove_24 (by decide) ?_
    refine lv_iadd hx hb dJ2_fastRemove_25 ?_
    refine lv_aload_n hx hb dJ2_fastRemove_26 rfl (lv_at hl 2 rfl) ?_
    refine lv_iload_n hx hb dJ2_fastRemove_27 rfl (lv_at hl 3 rfl) ?_
    refine lv_iload_n hx hb dJ2_fastRemove_28 rfl (lv_at hl 0 rfl) ?_
    refine lv_iload_n hx hb dJ2_fastRemove_29 rfl (lv_at hl 3 rfl) ?_
    refine lv_isub hx hb dJ2_fastRemove_30 ?_
    obtain ⟨t56, n58, f54, t57, n59, f55, he60, ht62, he61, ht63, g64, g65, g66, g67, g68, g69, hw⟩ := hw
    refine x_copyQ C hR hS q376 q233 q232 q95 he60 ht62 he61 ht63 g64 g65 g66 g67 g68 g69 hl.1 (Nat.le_of_ble_eq_true rfl) (Nat.le_of_ble_eq_true rfl) dJ2_fastRemove_31 (fun H locs hR hS => ?_)
    obtain ⟨h70, eh70⟩ : ∃ z, z = x_hs h50 p1 t57 (.inl (.object "java/lang/Object", (n59, .inr (.inr (.inr (.inr (va_cpy f54 f55 (p2 + 1).toNatClampNeg p2.toNatClampNeg ((y52 - 1) - p2).toNatClampNeg))))))) := ⟨_, rfl⟩
    rw [← eh70] at hR
    replace hw := hw h70 eh70
    exact kJ2_fastRemove_b34 C hR hS (lv_sub hl [1, 2, 0] rfl) hw
/-- java/util/ArrayList.remove(I)Ljava/lang/Object; -/
abbrev rmJ2_remove : Room := { frames := 2, cells := 0, slots := 0, locals := 63 }
section
variable {p : Program} {l : Launch} {e : Env} {s : State} {m : MethodId} {args : Array Value} {below : List Frame} {meth : Method} {c : Code} {D : va_G} {N0 : Nat} {gp : Nat → Nat} {X : x_X}
end
def wJ2_remove (post : Option Nat → x_H → Prop) (p0 : Nat) (p1 : Int32) (h : x_H) : Prop :=
  ∃ y18 : Int32, x_f h p0 7 2 (.int y18) ∧ wJ11_checkIndex (fun r19 => ∃ v21 : Option Nat, x_f h p0 7 1 (va_rf v21) ∧ ∃ a22 : Nat, v21 = some a22 ∧ ∃ (t23 n24 : Nat) (f25 : Nat → Option Nat), h a22 = some (t23, .inl (.object "java/lang/Object", (n24, .inr (.inr (.inr (.inr f25)))))) ∧ vp_in p1 n24 ∧ ∀ v28 : Option Nat, v28 = f25 p1.toNatClampNeg → ∃ (t30 : Nat) (fs31 : List Value), h p0 = some (t30, .inr (7, fs31)) ∧ wJ2_fastRemove (fun h29 => post v28 h29) p0 a22 p1 h) p1 y18
theorem kJ2_remove (l : Launch) (D : va_G) (N0 : Nat) (gp : Nat → Nat) (X : x_X) (p0 : Nat) (p1 : Int32) (h : x_H) (post : Option Nat → x_H → Prop) (hw : wJ2_remove post p0 p1 h) : Met l yJ2_remove (ws_ yJ2_remove cJ2_remove 4 (some (.object "java/lang/Object"))) rmJ2_remove (x_Pc D N0 gp X h [.ref p0, .int p1]) (x_Qc D N0 (x_Va (qJa X post))) 0 0 (x_A N0) := by
  refine x_start (lv := [(0, .ref p0), (1, .int p1)]) (by decide) rfl (Nat.le_of_ble_eq_true rfl) rfl ?_
  intro p e s m below meth c C hR ls hl
  have hS : va_S (x_A N0) s.heap s.heap [] := va_S.rf
  obtain ⟨⟨hx, hb, hml, hown, hts⟩, hr, hlocks, hG, hN⟩ := id C
  unfold wJ2_remove at hw
  refine lv_iload_n hx hb dJ2_remove_0 rfl (lv_at hl 1 rfl) ?_
  refine lv_aload_n hx hb dJ2_remove_1 rfl (lv_at hl 0 rfl) ?_
  obtain ⟨y18, hf17, hw⟩ := hw
  refine x_getH (ci := 7) (Cn := RJ2) (T := TJ2) (N := 3) (k := 2) C hR hf17 rfl in_J2 (by decide) q138 (fun _ h9 => h9) dJ2_remove_2 ?_
  refine x_calli0 (x_runS (n := 2) (As := [.int p1, .int y18]) C hR hS (kJ11_checkIndex l D N0 gp _ _ p1 y18 _ hw) (lw_S q366 q367 q102 q368) rfl rfl (by decide +kernel) ⟨Nat.le_of_ble_eq_true rfl, Nat.le_of_ble_eq_true rfl⟩ rfl hl.1 rfl (Nat.le_of_ble_eq_true rfl) dJ2_remove_5 ⟨Nat.le_refl _, Nat.le_refl _⟩) hS (fun r19 X1 h1 H locs hq hR hS => ?_)
  clear hw
  obtain ⟨e1, e2, hw⟩ := hq
  rw [e1, e2] at hR
  refine lv_pop hx hb dJ2_remove_8 rfl ?_
  refine lv_aload_n hx hb dJ2_remove_9 rfl (lv_at hl 0 rfl) ?_
  obtain ⟨v21, hf20, hw⟩ := hw
  refine x_getH (ci := 7) (Cn := RJ2) (T := TJ2) (N := 3) (k := 1) C hR hf20 rfl in_J2 (by decide) q137 (fun _ h9 => h9) dJ2_remove_10 ?_
  refine x_astore_nO (lv' := [(2, va_rf v21), (0, .ref p0), (1, .int p1)]) hx hb dJ2_remove_13 rfl hl (by decide) rfl (fun ls hl => ?_)
  refine x_aload_nO hx hb dJ2_remove_14 rfl (lv_at hl 0 rfl) ?_
  refine lv_iload_n hx hb dJ2_remove_15 rfl (lv_at hl 2 rfl) ?_
  obtain ⟨a22, ea22, hw⟩ := hw
  rw [ea22]
  obtain ⟨t23, n24, f25, he26, b27, hw⟩ := hw
  refine x_aald (n := n24) (f := f25) C (hR.rdH he26) b27 dJ2_remove_16 ?_
  obtain ⟨v28, ev28⟩ : ∃ z, z = f25 p1.toNatClampNeg := ⟨_, rfl⟩
  rw [← ev28]
  replace hw := hw v28 ev28
  refine x_astore_nO (lv' := [(3, va_rf v28), (2, va_rf v21), (0, .ref p0), (1, .int p1)]) hx hb dJ2_remove_17 rfl hl (by decide) (by simp only [List.filter_cons, List.filter_nil, x_cat1]; rfl) (fun ls hl => ?_)
  refine lv_aload_n hx hb dJ2_remove_18 rfl (lv_at hl 2 rfl) ?_
  refine x_aload_nO hx hb dJ2_remove_19 rfl (lv_at hl 1 rfl) ?_
  rw [ea22]
  refine lv_iload_n hx hb dJ2_remove_20 rfl (lv_at hl 3 rfl) ?_
  obtain ⟨t30, fs31, he32, hw⟩ := hw
  refine x_callv0 (x_runV (n := 2) (As := [.ref a22, .int p1]) C hR hS (kJ2_fastRemove l D N0 gp _ p0 a22 p1 h _ hw) (lw_V q372 q374 qs3 q88 q375) rfl rfl (by decide +kernel) ⟨Nat.le_of_ble_eq_true rfl, Nat.le_of_ble_eq_true rfl⟩ (x_recv C (hR.rdH he32) rfl) rfl hl.1 rfl (Nat.le_of_ble_eq_true rfl) dJ2_remove_21 ⟨Nat.le_refl _, Nat.le_refl _⟩) hS (fun X1 h29 H locs hq hR hS => ?_)
  clear hw
  obtain ⟨e1, hw⟩ := hq
  rw [e1] at hR
  refine x_aload_nO hx hb dJ2_remove_24 rfl (lv_at hl 0 rfl) ?_
  exact x_enda (v := v28) C (Or.inl ⟨_, rfl⟩) hR hS ⟨_, rfl, ⟨rfl, hw⟩⟩ (Nat.le_refl _) (Nat.le_refl _) dJ2_remove_25
/-- java/util/ArrayList.clear()V -/
abbrev rmJ2_clear : Room := { frames := 0, cells := 0, slots := 0, locals := 0 }
section
variable {p : Program} {l : Launch} {e : Env} {s : State} {m : MethodId} {args : Array Value} {below : List Frame} {meth : Method} {c : Code} {D : va_G} {N0 : Nat} {gp : Nat → Nat} {X : x_X}
def wJ2_clear_b42 (post : x_H → Prop) (p0 : Nat) (h : x_H) : Prop :=
  post h
theorem kJ2_clear_b42 {post : x_H → Prop} {p0 : Nat} (C : x_C p s m args meth c cJ2_clear 4 none RJ2 D N0 gp) {h : x_H} {H : Heap} {locs : List Loc} {ls : Array Slot} (hR : x_R D s N0 X h H) (hS : va_S (x_A N0) s.heap H locs) (hl : lv_has ls 4 []) (hw : wJ2_clear_b42 post p0 h) : W p l e rmJ2_clear s m args below meth c H locs 0 0 (MQ below (x_Qc D N0 (x_Vv (qJv X post))) args s 0 0 (x_A N0)) (F0 m 42 ls []) := by
  obtain ⟨⟨hx, hb, hml, hown, hts⟩, hr, hlocks, hG, hN⟩ := id C
  unfold wJ2_clear_b42 at hw
  exact x_endv C hR hS ⟨rfl, ⟨rfl, hw⟩⟩ (Nat.le_refl _) (Nat.le_refl _) dJ2_clear_42
def tJ2_clear_b27 (post : x_H → Prop) (K27 : x_H → Option Nat → Int32 → Int32 → Prop) (p0 : Nat) (h : x_H) (x1 : Option Nat) (x2 : Int32) (x3 : Int32) : Prop :=
  (x2 ≤ x3 → wJ2_clear_b42 post p0 h) ∧ (¬ x2 ≤ x3 → ∃ a50 : Nat, x1 = some a50 ∧ ∃ (t51 n52 : Nat) (f53 : Nat → Option Nat), h a50 = some (t51, .inl (.object "java/lang/Object", (n52, .inr (.inr (.inr (.inr f53)))))) ∧ t51 ≠ 1 ∧ vp_in x3 n52 ∧ ∀ h58 : x_H, h58 = x_hs h a50 t51 (.inl (.object "java/lang/Object", (n52, .inr (.inr (.inr (.inr (va_up f53 x3.toNatClampNeg none))))))) → K27 h58 x1 x2 (x3 + 1))
def wJ2_clear_b27 (post : x_H → Prop) (p0 : Nat) : Nat → x_H → Option Nat → Int32 → Int32 → Prop
  | 0 => fun _ _ _ _ => False
  | n + 1 => fun h x1 x2 x3 => tJ2_clear_b27 post (wJ2_clear_b27 post p0 n) p0 h x1 x2 x3
theorem kJ2_clear_b27 {post : x_H → Prop} {p0 : Nat} (C : x_C p s m args meth c cJ2_clear 4 none RJ2 D N0 gp) : ∀ (nn : Nat) (h : x_H) (x1 : Option Nat) (x2 : Int32) (x3 : Int32) (H : Heap) (locs : List Loc) (ls : Array Slot), x_R D s N0 X h H → va_S (x_A N0) s.heap H locs → lv_has ls 4 [(1, va_rf x1), (2, .int x2), (3, .int x3)] → wJ2_clear_b27 post p0 nn h x1 x2 x3 → W p l e rmJ2_clear s m args below meth c H locs 0 0 (MQ below (x_Qc D N0 (x_Vv (qJv X post))) args s 0 0 (x_A N0)) (F0 m 27 ls []) := by
  obtain ⟨⟨hx, hb, hml, hown, hts⟩, hr, hlocks, hG, hN⟩ := id C
  intro nn
  induction nn with
  | zero =>
    intro h x1 x2 x3 H locs ls hR hS hl hw
    exact False.elim hw
  | succ nn ih =>
    intro h x1 x2 x3 H locs ls hR hS hl hw
    have hK27 := ih
    replace hw : tJ2_clear_b27 post (wJ2_clear_b27 post p0 nn) p0 h x1 x2 x3 := hw
    unfold tJ2_clear_b27 at hw
    refine lv_iload_n hx hb dJ2_clear_27 rfl (lv_at hl 2 rfl) ?_
    refine lv_iload_n hx hb dJ2_clear_28 rfl (lv_at hl 1 rfl) ?_
    refine lv_icmp_ge (tgt := 42) hx hb dJ2_clear_29 (by decide) (fun c49 => ?_) (fun c49 => ?_)
    · replace hw := hw.1 c49
      exact kJ2_clear_b42 C hR hS (lv_sub hl [] rfl) hw
    · replace hw := hw.2 c49
      refine x_aload_nO hx hb dJ2_clear_32 rfl (lv_at hl 0 rfl) ?_
      refine lv_iload_n hx hb dJ2_clear_33 rfl (lv_at hl 2 rfl) ?_
      refine lv_null hx hb dJ2_clear_34 ?_
      obtain ⟨a50, ea50, hw⟩ := hw
      rw [ea50]
      obtain ⟨t51, n52, f53, he54, ht55, b56, hw⟩ := hw
      refine x_aastN C hR hS he54 ht55 b56 dJ2_clear_35 (fun H locs hR hS => ?_)
      obtain ⟨h58, eh58⟩ : ∃ z, z = x_hs h a50 t51 (.inl (.object "java/lang/Object", (n52, .inr (.inr (.inr (.inr (va_up f53 x3.toNatClampNeg none))))))) := ⟨_, rfl⟩
      rw [← eh58] at hR
      replace hw := hw h58 eh58
      refine lv_iinc (v := x3 + 1) (lv' := [(3, .int (x3 + 1)), (1, va_rf x1), (2, .int x2)]) hx hb dJ2_clear_36 hl (k := 2) rfl (x_inc 1 1 (by decide)) (by decide) rfl (fun ls hl => ?_)
      refine lv_goto (tgt := 27) hx hb dJ2_clear_39 (by decide) ?_
      exact hK27 _ _ _ _ _ _ _ hR hS (lv_sub hl [1, 2, 0] rfl) hw
end
def wJ2_clear (post : x_H → Prop) (p0 : Nat) (h : x_H) : Prop :=
  ∃ y31 : Int32, x_f h p0 7 0 (.int y31) ∧ ∃ (t32 : Nat) (fs33 : List Value), h p0 = some (t32, .inr (7, fs33)) ∧ t32 ≠ 1 ∧ 0 < fs33.length ∧ ∀ h37 : x_H, h37 = x_hs h p0 t32 (.inr (7, fs33.set 0 (.int (y31 + 1)))) → ∃ v39 : Option Nat, x_f h37 p0 7 1 (va_rf v39) ∧ ∃ y41 : Int32, x_f h37 p0 7 2 (.int y41) ∧ ∃ (t42 : Nat) (fs43 : List Value), h37 p0 = some (t42, .inr (7, fs43)) ∧ t42 ≠ 1 ∧ 2 < fs43.length ∧ ∀ h47 : x_H, h47 = x_hs h37 p0 t42 (.inr (7, fs43.set 2 (.int 0))) → ∃ n48 : Nat, wJ2_clear_b27 post p0 n48 h47 v39 y41 0
theorem kJ2_clear (l : Launch) (D : va_G) (N0 : Nat) (gp : Nat → Nat) (X : x_X) (p0 : Nat) (h : x_H) (post : x_H → Prop) (hw : wJ2_clear post p0 h) : Met l yJ2_clear (ws_ yJ2_clear cJ2_clear 4 none) rmJ2_clear (x_Pc D N0 gp X h [.ref p0]) (x_Qc D N0 (x_Vv (qJv X post))) 0 0 (x_A N0) := by
  refine x_start (lv := [(0, .ref p0)]) (by decide) rfl (Nat.le_of_ble_eq_true rfl) rfl ?_
  intro p e s m below meth c C hR ls hl
  have hS : va_S (x_A N0) s.heap s.heap [] := va_S.rf
  obtain ⟨⟨hx, hb, hml, hown, hts⟩, hr, hlocks, hG, hN⟩ := id C
  unfold wJ2_clear at hw
  refine lv_aload_n hx hb dJ2_clear_0 rfl (lv_at hl 0 rfl) ?_
  refine lv_dup hx hb dJ2_clear_1 rfl ?_
  obtain ⟨y31, hf30, hw⟩ := hw
  refine x_getH (ci := 7) (Cn := RJ2) (T := TJ2) (N := 3) (k := 0) C hR hf30 rfl in_J2 (by decide) q140 (fun x h9 => u_same (hts _ q141) x h9) dJ2_clear_2 ?_
  refine lv_iconst (v := 1) hx hb dJ2_clear_5 (by decide) ?_
  refine lv_iadd hx hb dJ2_clear_6 ?_
  obtain ⟨t32, fs33, he34, ht35, hl36, hw⟩ := hw
  refine x_putH (ci := 7) (Cn := RJ2) (T := TJ2) (N := 3) (v := .int (y31 + 1)) C hR hS he34 ht35 rfl in_J2 tyJ2_ok nmJ2 0 (by decide) q140 (fun x h9 => u_same (hts _ q141) x h9) rfl rfl rfl hl36 dJ2_clear_7 (fun H locs hR hS => ?_)
  obtain ⟨h37, eh37⟩ : ∃ z, z = x_hs h p0 t32 (.inr (7, fs33.set 0 (.int (y31 + 1)))) := ⟨_, rfl⟩
  rw [← eh37] at hR
  replace hw := hw h37 eh37
  refine lv_aload_n hx hb dJ2_clear_10 rfl (lv_at hl 0 rfl) ?_
  obtain ⟨v39, hf38, hw⟩ := hw
  refine x_getH (ci := 7) (Cn := RJ2) (T := TJ2) (N := 3) (k := 1) C hR hf38 rfl in_J2 (by decide) q137 (fun _ h9 => h9) dJ2_clear_11 ?_
  refine x_astore_nO (lv' := [(1, va_rf v39), (0, .ref p0)]) hx hb dJ2_clear_14 rfl hl (by decide) rfl (fun ls hl => ?_)
  refine lv_aload_n hx hb dJ2_clear_15 rfl (lv_at hl 1 rfl) ?_
  obtain ⟨y41, hf40, hw⟩ := hw
  refine x_getH (ci := 7) (Cn := RJ2) (T := TJ2) (N := 3) (k := 2) C hR hf40 rfl in_J2 (by decide) q138 (fun _ h9 => h9) dJ2_clear_16 ?_
  refine lv_istore_n (lv' := [(2, .int y41), (1, va_rf v39), (0, .ref p0)]) hx hb dJ2_clear_19 rfl hl (by decide) (by simp only [List.filter_cons, List.filter_nil, x_cat1]; rfl) (fun ls hl => ?_)
  refine lv_aload_n hx hb dJ2_clear_20 rfl (lv_at hl 2 rfl) ?_
  refine lv_iconst (v := 0) hx hb dJ2_clear_21 (by decide) ?_
  refine lv_dup_x1 hx hb dJ2_clear_22 rfl rfl ?_
  obtain ⟨t42, fs43, he44, ht45, hl46, hw⟩ := hw
  refine x_putH (ci := 7) (Cn := RJ2) (T := TJ2) (N := 3) (v := .int 0) C hR hS he44 ht45 rfl in_J2 tyJ2_ok nmJ2 2 (by decide) q138 (fun _ h9 => h9) rfl rfl rfl hl46 dJ2_clear_23 (fun H locs hR hS => ?_)
  obtain ⟨h47, eh47⟩ : ∃ z, z = x_hs h37 p0 t42 (.inr (7, fs43.set 2 (.int 0))) := ⟨_, rfl⟩
  rw [← eh47] at hR
  replace hw := hw h47 eh47
  refine lv_istore_n (lv' := [(3, .int 0), (2, .int y41), (1, va_rf v39), (0, .ref p0)]) hx hb dJ2_clear_26 rfl hl (by decide) rfl (fun ls hl => ?_)
  obtain ⟨n48, hw⟩ := hw
  exact kJ2_clear_b27 C n48 _ _ _ _ _ _ _ hR hS (lv_sub hl [2, 1, 0] rfl) hw
/-- java/util/ArrayList.elementData(I)Ljava/lang/Object; -/
abbrev rmJ2_elementData : Room := { frames := 0, cells := 0, slots := 0, locals := 0 }
section
variable {p : Program} {l : Launch} {e : Env} {s : State} {m : MethodId} {args : Array Value} {below : List Frame} {meth : Method} {c : Code} {D : va_G} {N0 : Nat} {gp : Nat → Nat} {X : x_X}
end
def wJ2_elementData (post : Option Nat → Prop) (p0 : Nat) (p1 : Int32) (h : x_H) : Prop :=
  ∃ v11 : Option Nat, x_f h p0 7 1 (va_rf v11) ∧ ∃ a12 : Nat, v11 = some a12 ∧ ∃ (t13 n14 : Nat) (f15 : Nat → Option Nat), h a12 = some (t13, .inl (.object "java/lang/Object", (n14, .inr (.inr (.inr (.inr f15)))))) ∧ vp_in p1 n14 ∧ ∀ v18 : Option Nat, v18 = f15 p1.toNatClampNeg → post v18 
theorem kJ2_elementData (l : Launch) (D : va_G) (N0 : Nat) (gp : Nat → Nat) (X : x_X) (p0 : Nat) (p1 : Int32) (h : x_H) (post : Option Nat → Prop) (hw : wJ2_elementData post p0 p1 h ) : Met l yJ2_elementData (ws_ yJ2_elementData cJ2_elementData 2 (some (.object "java/lang/Object"))) rmJ2_elementData (x_Pc D N0 gp X h [.ref p0, .int p1]) (x_Qc D N0 (x_Va (qPa X h post))) 0 0 (x_A N0) := by
  refine x_start (lv := [(0, .ref p0), (1, .int p1)]) (by decide) rfl (Nat.le_of_ble_eq_true rfl) rfl ?_
  intro p e s m below meth c C hR ls hl
  have hS : va_S (x_A N0) s.heap s.heap [] := va_S.rf
  obtain ⟨⟨hx, hb, hml, hown, hts⟩, hr, hlocks, hG, hN⟩ := id C
  unfold wJ2_elementData at hw
  refine lv_aload_n hx hb dJ2_elementData_0 rfl (lv_at hl 0 rfl) ?_
  obtain ⟨v11, hf10, hw⟩ := hw
  refine x_getH (ci := 7) (Cn := RJ2) (T := TJ2) (N := 3) (k := 1) C hR hf10 rfl in_J2 (by decide) q137 (fun _ h9 => h9) dJ2_elementData_1 ?_
  refine lv_iload_n hx hb dJ2_elementData_4 rfl (lv_at hl 1 rfl) ?_
  obtain ⟨a12, ea12, hw⟩ := hw
  rw [ea12]
  obtain ⟨t13, n14, f15, he16, b17, hw⟩ := hw
  refine x_aald (n := n14) (f := f15) C (hR.rdH he16) b17 dJ2_elementData_5 ?_
  obtain ⟨v18, ev18⟩ : ∃ z, z = f15 p1.toNatClampNeg := ⟨_, rfl⟩
  rw [← ev18]
  replace hw := hw v18 ev18
  exact x_enda (v := v18) C (Or.inl ⟨_, rfl⟩) hR hS ⟨_, rfl, ⟨rfl, rfl, hw⟩⟩ (Nat.le_refl _) (Nat.le_refl _) dJ2_elementData_6
/-- java/util/ArrayList.get(I)Ljava/lang/Object; -/
abbrev rmJ2_get : Room := { frames := 2, cells := 0, slots := 0, locals := 43 }
section
variable {p : Program} {l : Launch} {e : Env} {s : State} {m : MethodId} {args : Array Value} {below : List Frame} {meth : Method} {c : Code} {D : va_G} {N0 : Nat} {gp : Nat → Nat} {X : x_X}
end
def wJ2_get (post : Option Nat → Prop) (p0 : Nat) (p1 : Int32) (h : x_H) : Prop :=
  ∃ y9 : Int32, x_f h p0 7 2 (.int y9) ∧ wJ11_checkIndex (fun r10 => ∃ (t12 : Nat) (fs13 : List Value), h p0 = some (t12, .inr (7, fs13)) ∧ wJ2_elementData (fun r11 => post r11 ) p0 p1 h) p1 y9
theorem kJ2_get (l : Launch) (D : va_G) (N0 : Nat) (gp : Nat → Nat) (X : x_X) (p0 : Nat) (p1 : Int32) (h : x_H) (post : Option Nat → Prop) (hw : wJ2_get post p0 p1 h ) : Met l yJ2_get (ws_ yJ2_get cJ2_get 2 (some (.object "java/lang/Object"))) rmJ2_get (x_Pc D N0 gp X h [.ref p0, .int p1]) (x_Qc D N0 (x_Va (qPa X h post))) 0 0 (x_A N0) := by
  refine x_start (lv := [(0, .ref p0), (1, .int p1)]) (by decide) rfl (Nat.le_of_ble_eq_true rfl) rfl ?_
  intro p e s m below meth c C hR ls hl
  have hS : va_S (x_A N0) s.heap s.heap [] := va_S.rf
  obtain ⟨⟨hx, hb, hml, hown, hts⟩, hr, hlocks, hG, hN⟩ := id C
  unfold wJ2_get at hw
  refine lv_iload_n hx hb dJ2_get_0 rfl (lv_at hl 1 rfl) ?_
  refine lv_aload_n hx hb dJ2_get_1 rfl (lv_at hl 0 rfl) ?_
  obtain ⟨y9, hf8, hw⟩ := hw
  refine x_getH (ci := 7) (Cn := RJ2) (T := TJ2) (N := 3) (k := 2) C hR hf8 rfl in_J2 (by decide) q138 (fun _ h9 => h9) dJ2_get_2 ?_
  refine x_calli0 (x_runS (n := 2) (As := [.int p1, .int y9]) C hR hS (kJ11_checkIndex l D N0 gp _ _ p1 y9 _ hw) (lw_S q366 q367 q102 q368) rfl rfl (by decide +kernel) ⟨Nat.le_of_ble_eq_true rfl, Nat.le_of_ble_eq_true rfl⟩ rfl hl.1 rfl (Nat.le_of_ble_eq_true rfl) dJ2_get_5 ⟨Nat.le_refl _, Nat.le_refl _⟩) hS (fun r10 X1 h1 H locs hq hR hS => ?_)
  clear hw
  obtain ⟨e1, e2, hw⟩ := hq
  rw [e1, e2] at hR
  refine lv_pop hx hb dJ2_get_8 rfl ?_
  refine lv_aload_n hx hb dJ2_get_9 rfl (lv_at hl 0 rfl) ?_
  refine lv_iload_n hx hb dJ2_get_10 rfl (lv_at hl 1 rfl) ?_
  obtain ⟨t12, fs13, he14, hw⟩ := hw
  refine x_calla0 (x_runV (n := 1) (As := [.int p1]) C hR hS (kJ2_elementData l D N0 gp _ p0 p1 h _ hw) (lw_V q602 q603 q604 q88 q605) rfl rfl (by decide +kernel) ⟨Nat.le_of_ble_eq_true rfl, Nat.le_of_ble_eq_true rfl⟩ (x_recv C (hR.rdH he14) rfl) rfl hl.1 rfl (Nat.le_of_ble_eq_true rfl) dJ2_get_11 ⟨Nat.le_refl _, Nat.le_refl _⟩) hS (fun r11 X1 h1 H locs hq hR hS => ?_)
  clear hw
  obtain ⟨e1, e2, hw⟩ := hq
  rw [e1, e2] at hR
  exact x_enda (v := r11) C (Or.inl ⟨_, rfl⟩) hR hS ⟨_, rfl, ⟨rfl, rfl, hw⟩⟩ (Nat.le_refl _) (Nat.le_refl _) dJ2_get_14
/-- java/util/ArrayList.rangeCheckForAdd(I)V -/
abbrev rmJ2_rangeCheckForAdd : Room := { frames := 0, cells := 0, slots := 0, locals := 0 }
section
variable {p : Program} {l : Launch} {e : Env} {s : State} {m : MethodId} {args : Array Value} {below : List Frame} {meth : Method} {c : Code} {D : va_G} {N0 : Nat} {gp : Nat → Nat} {X : x_X}
def wJ2_rangeCheckForAdd_b12 (post : Prop) (p0 : Nat) (p1 : Int32) (h : x_H) : Prop :=
  False
theorem kJ2_rangeCheckForAdd_b12 {post : Prop} {p0 : Nat} {p1 : Int32} {h : x_H} (C : x_C p s m args meth c cJ2_rangeCheckForAdd 2 none RJ2 D N0 gp) {H : Heap} {locs : List Loc} {ls : Array Slot} (hR : x_R D s N0 X h H) (hS : va_S (x_A N0) s.heap H locs) (hl : lv_has ls 2 []) (hw : wJ2_rangeCheckForAdd_b12 post p0 p1 h ) : W p l e rmJ2_rangeCheckForAdd s m args below meth c H locs 0 0 (MQ below (x_Qc D N0 (x_Vv (qPv X h post))) args s 0 0 (x_A N0)) (F0 m 12 ls []) := by
  obtain ⟨⟨hx, hb, hml, hown, hts⟩, hr, hlocks, hG, hN⟩ := id C
  unfold wJ2_rangeCheckForAdd_b12 at hw
  exact False.elim hw
end
def wJ2_rangeCheckForAdd (post : Prop) (p0 : Nat) (p1 : Int32) (h : x_H) : Prop :=
  ∃ y6 : Int32, x_f h p0 7 2 (.int y6) ∧ (y6 < p1 → wJ2_rangeCheckForAdd_b12 post p0 p1 h ) ∧ (¬ y6 < p1 → (0 ≤ p1 → post) ∧ (¬ 0 ≤ p1 → wJ2_rangeCheckForAdd_b12 post p0 p1 h ))
theorem kJ2_rangeCheckForAdd (l : Launch) (D : va_G) (N0 : Nat) (gp : Nat → Nat) (X : x_X) (p0 : Nat) (p1 : Int32) (h : x_H) (post : Prop) (hw : wJ2_rangeCheckForAdd post p0 p1 h ) : Met l yJ2_rangeCheckForAdd (ws_ yJ2_rangeCheckForAdd cJ2_rangeCheckForAdd 2 none) rmJ2_rangeCheckForAdd (x_Pc D N0 gp X h [.ref p0, .int p1]) (x_Qc D N0 (x_Vv (qPv X h post))) 0 0 (x_A N0) := by
  refine x_start (lv := [(0, .ref p0), (1, .int p1)]) (by decide) rfl (Nat.le_of_ble_eq_true rfl) rfl ?_
  intro p e s m below meth c C hR ls hl
  have hS : va_S (x_A N0) s.heap s.heap [] := va_S.rf
  obtain ⟨⟨hx, hb, hml, hown, hts⟩, hr, hlocks, hG, hN⟩ := id C
  unfold wJ2_rangeCheckForAdd at hw
  refine lv_iload_n hx hb dJ2_rangeCheckForAdd_0 rfl (lv_at hl 1 rfl) ?_
  refine lv_aload_n hx hb dJ2_rangeCheckForAdd_1 rfl (lv_at hl 0 rfl) ?_
  obtain ⟨y6, hf5, hw⟩ := hw
  refine x_getH (ci := 7) (Cn := RJ2) (T := TJ2) (N := 3) (k := 2) C hR hf5 rfl in_J2 (by decide) q138 (fun _ h9 => h9) dJ2_rangeCheckForAdd_2 ?_
  refine lv_icmp_gt (tgt := 12) hx hb dJ2_rangeCheckForAdd_5 (by decide) (fun c7 => ?_) (fun c7 => ?_)
  · replace hw := hw.1 c7
    exact kJ2_rangeCheckForAdd_b12 C hR hS (lv_sub hl [] rfl) hw
  · replace hw := hw.2 c7
    refine lv_iload_n hx hb dJ2_rangeCheckForAdd_8 rfl (lv_at hl 1 rfl) ?_
    refine lv_if_ge (tgt := 25) hx hb dJ2_rangeCheckForAdd_9 (by decide) (fun c8 => ?_) (fun c8 => ?_)
    · replace hw := hw.1 c8
      exact x_endv C hR hS ⟨rfl, ⟨rfl, rfl, hw⟩⟩ (Nat.le_refl _) (Nat.le_refl _) dJ2_rangeCheckForAdd_25
    · replace hw := hw.2 c8
      exact kJ2_rangeCheckForAdd_b12 C hR hS (lv_sub hl [] rfl) hw
/-- java/util/ArrayList.add(ILjava/lang/Object;)V -/
abbrev rmJ2_add_3 (mc0 ms0 : Nat) : Room := { frames := 5, cells := mc0, slots := ms0, locals := 127 }
section
variable {p : Program} {l : Launch} {e : Env} {s : State} {m : MethodId} {args : Array Value} {below : List Frame} {meth : Method} {c : Code} {D : va_G} {N0 : Nat} {gp : Nat → Nat} {X : x_X} {mc0 ms0 : Nat}
def wJ2_add_3_b38 (post : x_H → Prop) (gp : Nat → Nat) (p0 : Nat) (p1 : Int32) (p2 : Nat) (h : x_H) (mc : Nat) (ms : Nat) (x3 : Int32) (x4 : Option Nat) : Prop :=
  ∃ a93 : Nat, x4 = some a93 ∧ ∃ (t96 n98 : Nat) (f94 : Nat → Option Nat) (t97 n99 : Nat) (f95 : Nat → Option Nat), h a93 = some (t96, .inl (.object "java/lang/Object", (n98, .inr (.inr (.inr (.inr f94)))))) ∧ t96 ≠ 1 ∧ h a93 = some (t97, .inl (.object "java/lang/Object", (n99, .inr (.inr (.inr (.inr f95)))))) ∧ t97 ≠ 1 ∧ ¬ p1 < 0 ∧ ¬ (p1 + 1) < 0 ∧ ¬ (x3 - p1) < 0 ∧ p1.toNatClampNeg + (x3 - p1).toNatClampNeg ≤ n98 ∧ (p1 + 1).toNatClampNeg + (x3 - p1).toNatClampNeg ≤ n99 ∧ (∀ i : Nat, i < (x3 - p1).toNatClampNeg → ∀ y : Nat, f94 (p1.toNatClampNeg + i) = some y → x_el h y) ∧ ∀ h110 : x_H, h110 = x_hs h a93 t97 (.inl (.object "java/lang/Object", (n99, .inr (.inr (.inr (.inr (va_cpy f94 f95 p1.toNatClampNeg (p1 + 1).toNatClampNeg (x3 - p1).toNatClampNeg))))))) → ∃ (t111 n112 : Nat) (f113 : Nat → Option Nat), h110 a93 = some (t111, .inl (.object "java/lang/Object", (n112, .inr (.inr (.inr (.inr f113)))))) ∧ t111 ≠ 1 ∧ vp_in p1 n112 ∧ x_el h110 p2 ∧ ∀ h118 : x_H, h118 = x_hs h110 a93 t111 (.inl (.object "java/lang/Object", (n112, .inr (.inr (.inr (.inr (va_up f113 p1.toNatClampNeg (some p2)))))))) → ∃ (t119 : Nat) (fs120 : List Value), h118 p0 = some (t119, .inr (7, fs120)) ∧ t119 ≠ 1 ∧ 2 < fs120.length ∧ ∀ h124 : x_H, h124 = x_hs h118 p0 t119 (.inr (7, fs120.set 2 (.int (x3 + 1)))) → post h124
theorem kJ2_add_3_b38 {post : x_H → Prop} {p0 : Nat} {p1 : Int32} {p2 : Nat} (C : x_C p s m args meth c cJ2_add_3 5 none RJ2 D N0 gp) {h : x_H} {mc : Nat} {ms : Nat} {x3 : Int32} {x4 : Option Nat} {k n : Nat} {H : Heap} {locs : List Loc} {ls : Array Slot} (hR : x_R D s N0 X h H) (hS : va_S (x_A N0) s.heap H locs) (hk : k + mc ≤ mc0) (hn : n + ms ≤ ms0) (hl : lv_has ls 5 [(0, .ref p0), (1, .int p1), (2, .ref p2), (3, .int x3), (4, va_rf x4)]) (hw : wJ2_add_3_b38 post gp p0 p1 p2 h mc ms x3 x4) : W p l e (rmJ2_add_3 mc0 ms0) s m args below meth c H locs k n (MQ below (x_Qc D N0 (x_Vv (qJv X post))) args s mc0 ms0 (x_A N0)) (F0 m 38 ls []) := by
  obtain ⟨⟨hx, hb, hml, hown, hts⟩, hr, hlocks, hG, hN⟩ := id C
  unfold wJ2_add_3_b38 at hw
  refine x_aloadO hx hb dJ2_add_3_38 (lv_at hl 4 rfl) ?_
  refine lv_iload_n hx hb dJ2_add_3_40 rfl (lv_at hl 1 rfl) ?_
  refine x_aloadO hx hb dJ2_add_3_41 (lv_at hl 4 rfl) ?_
  refine lv_iload_n hx hb dJ2_add_3_43 rfl (lv_at hl 1 rfl) ?_
  refine lv_iconst (v := 1) hx hb dJ2_add_3_44 (by decide) ?_
  refine lv_iadd hx hb dJ2_add_3_45 ?_
  refine lv_iload_n hx hb dJ2_add_3_46 rfl (lv_at hl 3 rfl) ?_
  refine lv_iload_n hx hb dJ2_add_3_47 rfl (lv_at hl 1 rfl) ?_
  refine lv_isub hx hb dJ2_add_3_48 ?_
  obtain ⟨a93, ea93, hw⟩ := hw
  rw [ea93]
  obtain ⟨t96, n98, f94, t97, n99, f95, he100, ht102, he101, ht103, g104, g105, g106, g107, g108, g109, hw⟩ := hw
  refine x_copyQ C hR hS q376 q233 q232 q95 he100 ht102 he101 ht103 g104 g105 g106 g107 g108 g109 hl.1 (Nat.le_of_ble_eq_true rfl) (Nat.le_of_ble_eq_true rfl) dJ2_add_3_49 (fun H locs hR hS => ?_)
  obtain ⟨h110, eh110⟩ : ∃ z, z = x_hs h a93 t97 (.inl (.object "java/lang/Object", (n99, .inr (.inr (.inr (.inr (va_cpy f94 f95 p1.toNatClampNeg (p1 + 1).toNatClampNeg (x3 - p1).toNatClampNeg))))))) := ⟨_, rfl⟩
  rw [← eh110] at hR
  replace hw := hw h110 eh110
  refine x_aloadO hx hb dJ2_add_3_52 (lv_at hl 4 rfl) ?_
  rw [ea93]
  refine lv_iload_n hx hb dJ2_add_3_54 rfl (lv_at hl 1 rfl) ?_
  refine lv_aload_n hx hb dJ2_add_3_55 rfl (lv_at hl 2 rfl) ?_
  obtain ⟨t111, n112, f113, he114, ht115, b116, el117, hw⟩ := hw
  refine x_aastH C hR hS he114 ht115 b116 el117 dJ2_add_3_56 (fun H locs hR hS => ?_)
  obtain ⟨h118, eh118⟩ : ∃ z, z = x_hs h110 a93 t111 (.inl (.object "java/lang/Object", (n112, .inr (.inr (.inr (.inr (va_up f113 p1.toNatClampNeg (some p2)))))))) := ⟨_, rfl⟩
  rw [← eh118] at hR
  replace hw := hw h118 eh118
  refine lv_aload_n hx hb dJ2_add_3_57 rfl (lv_at hl 0 rfl) ?_
  refine lv_iload_n hx hb dJ2_add_3_58 rfl (lv_at hl 3 rfl) ?_
  refine lv_iconst (v := 1) hx hb dJ2_add_3_59 (by decide) ?_
  refine lv_iadd hx hb dJ2_add_3_60 ?_
  obtain ⟨t119, fs120, he121, ht122, hl123, hw⟩ := hw
  refine x_putH (ci := 7) (Cn := RJ2) (T := TJ2) (N := 3) (v := .int (x3 + 1)) C hR hS he121 ht122 rfl in_J2 tyJ2_ok nmJ2 2 (by decide) q138 (fun _ h9 => h9) rfl rfl rfl hl123 dJ2_add_3_61 (fun H locs hR hS => ?_)
  obtain ⟨h124, eh124⟩ : ∃ z, z = x_hs h118 p0 t119 (.inr (7, fs120.set 2 (.int (x3 + 1)))) := ⟨_, rfl⟩
  rw [← eh124] at hR
  replace hw := hw h124 eh124
  exact x_endv C hR hS ⟨rfl, ⟨rfl, hw⟩⟩ (x_le hk) (x_le hn) dJ2_add_3_64
end
def wJ2_add_3 (post : x_H → Prop) (gp : Nat → Nat) (p0 : Nat) (p1 : Int32) (p2 : Nat) (h : x_H) (mc : Nat) (ms : Nat) : Prop :=
  ∃ (t63 : Nat) (fs64 : List Value), h p0 = some (t63, .inr (7, fs64)) ∧ wJ2_rangeCheckForAdd (∃ y67 : Int32, x_f h p0 7 0 (.int y67) ∧ ∃ (t68 : Nat) (fs69 : List Value), h p0 = some (t68, .inr (7, fs69)) ∧ t68 ≠ 1 ∧ 0 < fs69.length ∧ ∀ h73 : x_H, h73 = x_hs h p0 t68 (.inr (7, fs69.set 0 (.int (y67 + 1)))) → ∃ y75 : Int32, x_f h73 p0 7 2 (.int y75) ∧ ∃ v77 : Option Nat, x_f h73 p0 7 1 (va_rf v77) ∧ ∃ a78 : Nat, v77 = some a78 ∧ ∃ (t79 : Nat) (ty80 : FieldType) (x81 : vp_A), h73 a78 = some (t79, .inl (ty80, x81)) ∧ (y75 = (nI x81.1) → ∃ (t90 : Nat) (fs91 : List Value), h73 p0 = some (t90, .inr (7, fs91)) ∧ ∃ ca85 cb86 mc87 ms88 : Nat, ca85 + mc87 ≤ mc ∧ cb86 + ms88 ≤ ms ∧ wJ2_grow (fun r84 h89 => wJ2_add_3_b38 post gp p0 p1 p2 h89 mc87 ms88 y75 r84) gp p0 h73 ca85 cb86) ∧ (¬ y75 = (nI x81.1) → wJ2_add_3_b38 post gp p0 p1 p2 h73 mc ms y75 v77)) p0 p1 h
theorem kJ2_add_3 (l : Launch) (D : va_G) (N0 : Nat) (gp : Nat → Nat) (X : x_X) (p0 : Nat) (p1 : Int32) (p2 : Nat) (h : x_H) (mc : Nat) (ms : Nat) (post : x_H → Prop) (hw : wJ2_add_3 post gp p0 p1 p2 h mc ms) : Met l yJ2_add_3 (ws_ yJ2_add_3 cJ2_add_3 5 none) (rmJ2_add_3 mc ms) (x_Pc D N0 gp X h [.ref p0, .int p1, .ref p2]) (x_Qc D N0 (x_Vv (qJv X post))) mc ms (x_A N0) := by
  refine x_start (lv := [(0, .ref p0), (1, .int p1), (2, .ref p2)]) (by decide) rfl (Nat.le_of_ble_eq_true rfl) rfl ?_
  intro p e s m below meth c C hR ls hl
  have hS : va_S (x_A N0) s.heap s.heap [] := va_S.rf
  obtain ⟨⟨hx, hb, hml, hown, hts⟩, hr, hlocks, hG, hN⟩ := id C
  unfold wJ2_add_3 at hw
  have hk : 0 + mc ≤ mc := Nat.le_of_eq (Nat.zero_add _)
  have hn : 0 + ms ≤ ms := Nat.le_of_eq (Nat.zero_add _)
  refine lv_aload_n hx hb dJ2_add_3_0 rfl (lv_at hl 0 rfl) ?_
  refine lv_iload_n hx hb dJ2_add_3_1 rfl (lv_at hl 1 rfl) ?_
  obtain ⟨t63, fs64, he65, hw⟩ := hw
  refine x_callv0 (x_runV (n := 1) (As := [.int p1]) C hR hS (kJ2_rangeCheckForAdd l D N0 gp _ p0 p1 h _ hw) (lw_V q979 q981 qs29 q88 q982) rfl rfl (by decide +kernel) ⟨Nat.le_of_ble_eq_true rfl, Nat.le_of_ble_eq_true rfl⟩ (x_recv C (hR.rdH he65) rfl) rfl hl.1 rfl (Nat.le_of_ble_eq_true rfl) dJ2_add_3_2 ⟨x_bud0 hk, x_bud0 hn⟩) hS (fun X1 h1 H locs hq hR hS => ?_)
  clear hw
  obtain ⟨e1, e2, hw⟩ := hq
  rw [e1, e2] at hR
  refine lv_aload_n hx hb dJ2_add_3_5 rfl (lv_at hl 0 rfl) ?_
  refine lv_dup hx hb dJ2_add_3_6 rfl ?_
  obtain ⟨y67, hf66, hw⟩ := hw
  refine x_getH (ci := 7) (Cn := RJ2) (T := TJ2) (N := 3) (k := 0) C hR hf66 rfl in_J2 (by decide) q140 (fun x h9 => u_same (hts _ q141) x h9) dJ2_add_3_7 ?_
  refine lv_iconst (v := 1) hx hb dJ2_add_3_10 (by decide) ?_
  refine lv_iadd hx hb dJ2_add_3_11 ?_
  obtain ⟨t68, fs69, he70, ht71, hl72, hw⟩ := hw
  refine x_putH (ci := 7) (Cn := RJ2) (T := TJ2) (N := 3) (v := .int (y67 + 1)) C hR hS he70 ht71 rfl in_J2 tyJ2_ok nmJ2 0 (by decide) q140 (fun x h9 => u_same (hts _ q141) x h9) rfl rfl rfl hl72 dJ2_add_3_12 (fun H locs hR hS => ?_)
  obtain ⟨h73, eh73⟩ : ∃ z, z = x_hs h p0 t68 (.inr (7, fs69.set 0 (.int (y67 + 1)))) := ⟨_, rfl⟩
  rw [← eh73] at hR
  replace hw := hw h73 eh73
  refine lv_aload_n hx hb dJ2_add_3_15 rfl (lv_at hl 0 rfl) ?_
  obtain ⟨y75, hf74, hw⟩ := hw
  refine x_getH (ci := 7) (Cn := RJ2) (T := TJ2) (N := 3) (k := 2) C hR hf74 rfl in_J2 (by decide) q138 (fun _ h9 => h9) dJ2_add_3_16 ?_
  refine lv_dup hx hb dJ2_add_3_19 rfl ?_
  refine lv_istore_n (lv' := [(3, .int y75), (0, .ref p0), (1, .int p1), (2, .ref p2)]) hx hb dJ2_add_3_20 rfl hl (by decide) rfl (fun ls hl => ?_)
  refine lv_aload_n hx hb dJ2_add_3_21 rfl (lv_at hl 1 rfl) ?_
  obtain ⟨v77, hf76, hw⟩ := hw
  refine x_getH (ci := 7) (Cn := RJ2) (T := TJ2) (N := 3) (k := 1) C hR hf76 rfl in_J2 (by decide) q137 (fun _ h9 => h9) dJ2_add_3_22 ?_
  refine lv_dup hx hb dJ2_add_3_25 (x_cat1 _) ?_
  refine x_astoreO (lv' := [(4, va_rf v77), (3, .int y75), (0, .ref p0), (1, .int p1), (2, .ref p2)]) hx hb dJ2_add_3_26 hl (by decide) rfl (fun ls hl => ?_)
  obtain ⟨a78, ea78, hw⟩ := hw
  rw [ea78]
  obtain ⟨t79, ty80, x81, he82, hw⟩ := hw
  refine x_alen C (hR.rdH he82) dJ2_add_3_28 ?_
  refine lv_icmp_ne (tgt := 38) hx hb dJ2_add_3_29 (by decide) (fun c83 => ?_) (fun c83 => ?_)
  · replace hw := hw.2 c83
    exact kJ2_add_3_b38 C hR hS hk hn (lv_sub hl [2, 3, 4, 1, 0] rfl) hw
  · replace hw := hw.1 c83
    refine lv_aload_n hx hb dJ2_add_3_32 rfl (lv_at hl 2 rfl) ?_
    obtain ⟨t90, fs91, he92, hw⟩ := hw
    obtain ⟨ca85, cb86, mc87, ms88, hca85, hcb86, hw⟩ := hw
    refine x_calla (x_runV (n := 0) (As := []) C hR hS (kJ2_grow l D N0 gp _ p0 h73 ca85 cb86 _ hw) (lw_V q184 q186 qs1 q88 q187) rfl rfl (by decide +kernel) ⟨Nat.le_of_ble_eq_true rfl, Nat.le_of_ble_eq_true rfl⟩ (x_recv C (hR.rdH he92) rfl) rfl hl.1 rfl (Nat.le_of_ble_eq_true rfl) dJ2_add_3_33 ⟨x_bud hk hca85, x_bud hn hcb86⟩) hS (fun r84 X1 h89 H locs hq hR hS => ?_)
    clear hw
    obtain ⟨e1, hw⟩ := hq
    rw [e1] at hR
    have hk := x_budN hk hca85
    have hn := x_budN hn hcb86
    refine x_astoreO (lv' := [(4, va_rf r84), (3, .int y75), (0, .ref p0), (1, .int p1), (2, .ref p2)]) hx hb dJ2_add_3_36 hl (by decide) rfl (fun ls hl => ?_)
    exact kJ2_add_3_b38 C hR hS hk hn (lv_sub hl [2, 3, 4, 1, 0] rfl) hw
/-- java/lang/AbstractStringBuilder.<init>(I)V -/
abbrev rmJ7_init (mc0 ms0 : Nat) : Room := { frames := 1, cells := mc0, slots := ms0, locals := 12 }
section
variable {p : Program} {l : Launch} {e : Env} {s : State} {m : MethodId} {args : Array Value} {below : List Frame} {meth : Method} {c : Code} {D : va_G} {N0 : Nat} {gp : Nat → Nat} {X : x_X} {mc0 ms0 : Nat}
end
def wJ7_init (post : x_H → Prop) (p0 : Nat) (p1 : Int32) (h : x_H) (mc : Nat) (ms : Nat) : Prop :=
  ((1 : Int32) = 0 → False) ∧ (¬ (1 : Int32) = 0 → ∃ mc24 ms25 : Nat, 1 + mc24 ≤ mc ∧ p1.toNatClampNeg + ms25 ≤ ms ∧ ¬ p1 < 0 ∧ p1.toNatClampNeg ≤ 536870912 ∧ ∀ q28 : Nat, h q28 = none → ∃ t29 : Nat, t29 ≠ 1 ∧ ∀ h32 : x_H, h32 = x_hs h q28 t29 (.inl (.byte, (p1.toNatClampNeg, .inl (fun _ => 0)))) → ∃ (t33 : Nat) (fs34 : List Value), h32 p0 = some (t33, .inr (8, fs34)) ∧ t33 ≠ 1 ∧ 0 < fs34.length ∧ ∀ h38 : x_H, h38 = x_hs h32 p0 t33 (.inr (8, fs34.set 0 (.ref q28))) → ∃ (t39 : Nat) (fs40 : List Value), h38 p0 = some (t39, .inr (8, fs40)) ∧ t39 ≠ 1 ∧ 1 < fs40.length ∧ ∀ h44 : x_H, h44 = x_hs h38 p0 t39 (.inr (8, fs40.set 1 (.int 0))) → post h44)
theorem kJ7_init (l : Launch) (D : va_G) (N0 : Nat) (gp : Nat → Nat) (X : x_X) (p0 : Nat) (p1 : Int32) (h : x_H) (mc : Nat) (ms : Nat) (post : x_H → Prop) (hw : wJ7_init post p0 p1 h mc ms) : Met l yJ7_init (ws_ yJ7_init cJ7_init 2 none) (rmJ7_init mc ms) (x_Pc D N0 gp X h [.ref p0, .int p1]) (x_Qc D N0 (x_Vv (qJv X post))) mc ms (x_A N0) := by
  refine x_startI (lv := [(0, .ref p0), (1, .int p1)]) (by decide) rfl (Nat.le_of_ble_eq_true rfl) rfl ?_
  intro p e s m below meth c C hin hR ls hl
  have hS : va_S (x_A N0) s.heap s.heap [] := va_S.rf
  obtain ⟨⟨hx, hb, hml, hown, hts⟩, hr, hlocks, hG, hN⟩ := id C
  unfold wJ7_init at hw
  have hk : 0 + mc ≤ mc := Nat.le_of_eq (Nat.zero_add _)
  have hn : 0 + ms ≤ ms := Nat.le_of_eq (Nat.zero_add _)
  refine lv_aload_n hx hb dJ7_init_0 rfl (lv_at hl 0 rfl) ?_
  refine x_objInit C q271 q121 q122 hl.1 dJ7_init_1 (Nat.le_of_ble_eq_true rfl) (Nat.le_of_ble_eq_true rfl) ?_
  refine x_gets C hS hG.2.2.1.2.2.1 q272 dJ7_init_4 ?_
  refine lv_if_eq (tgt := 25) hx hb dJ7_init_7 (by decide) (fun c23 => ?_) (fun c23 => ?_)
  · replace hw := hw.1 c23
    refine lv_aload_n hx hb dJ7_init_25 rfl (lv_at hl 0 rfl) ?_
    refine lv_iload_n hx hb dJ7_init_26 rfl (lv_at hl 1 rfl) ?_
    exact False.elim hw
  · replace hw := hw.2 c23
    refine lv_aload_n hx hb dJ7_init_10 rfl (lv_at hl 0 rfl) ?_
    refine lv_iload_n hx hb dJ7_init_11 rfl (lv_at hl 1 rfl) ?_
    obtain ⟨mc24, ms25, hmc24, hms25, hw⟩ := hw
    obtain ⟨g26, g27, hw⟩ := hw
    refine x_newB C hR hS q175 g26 g27 (x_bud hk hmc24) (x_bud hn hms25) dJ7_init_12 (fun q28 H hq30 hRn hS => ?_)
    obtain ⟨t29, ht31, hw⟩ := hw q28 hq30
    have hR := hRn t29 ht31
    obtain ⟨h32, eh32⟩ : ∃ z, z = x_hs h q28 t29 (.inl (.byte, (p1.toNatClampNeg, .inl (fun _ => 0)))) := ⟨_, rfl⟩
    rw [← eh32] at hR
    replace hw := hw h32 eh32
    have hk := x_budN hk hmc24
    have hn := x_budN hn hms25
    obtain ⟨t33, fs34, he35, ht36, hl37, hw⟩ := hw
    refine x_putH (ci := 8) (Cn := RJ8) (T := TJ8) (N := 4) (v := .ref q28) C hR hS he35 ht36 rfl in_J8 tyJ8_ok nmJ8 0 (by decide) q281 (fun _ h9 => h9) rfl rfl rfl hl37 dJ7_init_14 (fun H locs hR hS => ?_)
    obtain ⟨h38, eh38⟩ : ∃ z, z = x_hs h32 p0 t33 (.inr (8, fs34.set 0 (.ref q28))) := ⟨_, rfl⟩
    rw [← eh38] at hR
    replace hw := hw h38 eh38
    refine lv_aload_n hx hb dJ7_init_17 rfl (lv_at hl 0 rfl) ?_
    refine lv_iconst (v := 0) hx hb dJ7_init_18 (by decide) ?_
    obtain ⟨t39, fs40, he41, ht42, hl43, hw⟩ := hw
    refine x_putH (ci := 8) (Cn := RJ8) (T := TJ8) (N := 4) (v := .int 0) C hR hS he41 ht42 rfl in_J8 tyJ8_ok nmJ8 1 (by decide) q282 (fun _ h9 => h9) rfl rfl rfl hl43 dJ7_init_19 (fun H locs hR hS => ?_)
    obtain ⟨h44, eh44⟩ : ∃ z, z = x_hs h38 p0 t39 (.inr (8, fs40.set 1 (.int 0))) := ⟨_, rfl⟩
    rw [← eh44] at hR
    replace hw := hw h44 eh44
    refine lv_goto (tgt := 38) hx hb dJ7_init_22 (by decide) ?_
    exact x_endv C hR hS ⟨rfl, ⟨rfl, hw⟩⟩ (x_le hk) (x_le hn) dJ7_init_38
/-- java/lang/StringBuilder.<init>()V -/
abbrev rmJ8_init (mc0 ms0 : Nat) : Room := { frames := 2, cells := mc0, slots := ms0, locals := 33 }
section
variable {p : Program} {l : Launch} {e : Env} {s : State} {m : MethodId} {args : Array Value} {below : List Frame} {meth : Method} {c : Code} {D : va_G} {N0 : Nat} {gp : Nat → Nat} {X : x_X} {mc0 ms0 : Nat}
end
def wJ8_init (post : x_H → Prop) (p0 : Nat) (h : x_H) (mc : Nat) (ms : Nat) : Prop :=
  ∃ ca6 cb7 mc8 ms9 : Nat, ca6 + mc8 ≤ mc ∧ cb7 + ms9 ≤ ms ∧ wJ7_init (fun h10 => post h10) p0 16 h ca6 cb7
theorem kJ8_init (l : Launch) (D : va_G) (N0 : Nat) (gp : Nat → Nat) (X : x_X) (p0 : Nat) (h : x_H) (mc : Nat) (ms : Nat) (post : x_H → Prop) (hw : wJ8_init post p0 h mc ms) : Met l yJ8_init (ws_ yJ8_init cJ8_init 1 none) (rmJ8_init mc ms) (x_Pc D N0 gp X h [.ref p0]) (x_Qc D N0 (x_Vv (qJv X post))) mc ms (x_A N0) := by
  refine x_startI (lv := [(0, .ref p0)]) (by decide) rfl (Nat.le_of_ble_eq_true rfl) rfl ?_
  intro p e s m below meth c C hin hR ls hl
  have hS : va_S (x_A N0) s.heap s.heap [] := va_S.rf
  obtain ⟨⟨hx, hb, hml, hown, hts⟩, hr, hlocks, hG, hN⟩ := id C
  unfold wJ8_init at hw
  have hk : 0 + mc ≤ mc := Nat.le_of_eq (Nat.zero_add _)
  have hn : 0 + ms ≤ ms := Nat.le_of_eq (Nat.zero_add _)
  refine lv_aload_n hx hb dJ8_init_0 rfl (lv_at hl 0 rfl) ?_
  refine lv_bipush (v := 16) hx hb dJ8_init_1 (by decide) ?_
  obtain ⟨ca6, cb7, mc8, ms9, hca6, hcb7, hw⟩ := hw
  refine x_callv (x_runI (n := 1) (As := [.int 16]) (b := p0) C hR hS (kJ7_init l D N0 gp _ p0 16 h ca6 cb7 _ hw) q270 q97 q268 q269 rfl rfl rfl (by decide +kernel) ⟨Nat.le_of_ble_eq_true rfl, Nat.le_of_ble_eq_true rfl⟩ rfl hl.1 rfl (Nat.le_of_ble_eq_true rfl) dJ8_init_3 ⟨x_bud hk hca6, x_bud hn hcb7⟩) hS (fun X1 h10 H locs hq hR hS => ?_)
  clear hw
  obtain ⟨e1, hw⟩ := hq
  rw [e1] at hR
  have hk := x_budN hk hca6
  have hn := x_budN hn hcb7
  exact x_endv C hR hS ⟨rfl, ⟨rfl, hw⟩⟩ (x_le hk) (x_le hn) dJ8_init_6
/-- java/lang/AbstractStringBuilder.newCapacity(I)I -/
abbrev rmJ7_newCapacity : Room := { frames := 2, cells := 0, slots := 0, locals := 63 }
section
variable {p : Program} {l : Launch} {e : Env} {s : State} {m : MethodId} {args : Array Value} {below : List Frame} {meth : Method} {c : Code} {D : va_G} {N0 : Nat} {gp : Nat → Nat} {X : x_X}
end
def wJ7_newCapacity (post : Int32 → Prop) (p0 : Nat) (p1 : Int32) (h : x_H) : Prop :=
  ∃ v17 : Option Nat, x_f h p0 8 0 (va_rf v17) ∧ ∃ a18 : Nat, v17 = some a18 ∧ ∃ (t19 : Nat) (ty20 : FieldType) (x21 : vp_A), h a18 = some (t19, .inl (ty20, x21)) ∧ ∃ y24 : Int32, x_f h p0 8 1 (.int y24) ∧ ∃ y26 : Int32, x_f h p0 8 1 (.int y26) ∧ wJ4_newLength (fun r27 => (r27 = 2147483647 → False) ∧ (¬ r27 = 2147483647 → ∃ y30 : Int32, x_f h p0 8 1 (.int y30) ∧ post (r27 >>> (y30 &&& 31)) )) (nI x21.1) ((p1 <<< (y24 &&& 31)) - (nI x21.1)) ((nI x21.1) + (2 <<< (y26 &&& 31)))
theorem kJ7_newCapacity (l : Launch) (D : va_G) (N0 : Nat) (gp : Nat → Nat) (X : x_X) (p0 : Nat) (p1 : Int32) (h : x_H) (post : Int32 → Prop) (hw : wJ7_newCapacity post p0 p1 h ) : Met l yJ7_newCapacity (ws_ yJ7_newCapacity cJ7_newCapacity 6 (some .int)) rmJ7_newCapacity (x_Pc D N0 gp X h [.ref p0, .int p1]) (x_Qc D N0 (x_Vi (qPi X h post))) 0 0 (x_A N0) := by
  refine x_start (lv := [(0, .ref p0), (1, .int p1)]) (by decide) rfl (Nat.le_of_ble_eq_true rfl) rfl ?_
  intro p e s m below meth c C hR ls hl
  have hS : va_S (x_A N0) s.heap s.heap [] := va_S.rf
  obtain ⟨⟨hx, hb, hml, hown, hts⟩, hr, hlocks, hG, hN⟩ := id C
  unfold wJ7_newCapacity at hw
  refine lv_aload_n hx hb dJ7_newCapacity_0 rfl (lv_at hl 0 rfl) ?_
  obtain ⟨v17, hf16, hw⟩ := hw
  refine x_getH (ci := 8) (Cn := RJ8) (T := TJ8) (N := 4) (k := 0) C hR hf16 rfl in_J8 (by decide) q281 (fun _ h9 => h9) dJ7_newCapacity_1 ?_
  obtain ⟨a18, ea18, hw⟩ := hw
  rw [ea18]
  obtain ⟨t19, ty20, x21, he22, hw⟩ := hw
  refine x_alen C (hR.rdH he22) dJ7_newCapacity_4 ?_
  refine lv_istore_n (lv' := [(2, .int (nI x21.1)), (0, .ref p0), (1, .int p1)]) hx hb dJ7_newCapacity_5 rfl hl (by decide) rfl (fun ls hl => ?_)
  refine lv_iload_n hx hb dJ7_newCapacity_6 rfl (lv_at hl 2 rfl) ?_
  refine lv_aload_n hx hb dJ7_newCapacity_7 rfl (lv_at hl 1 rfl) ?_
  obtain ⟨y24, hf23, hw⟩ := hw
  refine x_getH (ci := 8) (Cn := RJ8) (T := TJ8) (N := 4) (k := 1) C hR hf23 rfl in_J8 (by decide) q282 (fun _ h9 => h9) dJ7_newCapacity_8 ?_
  refine lv_ishl hx hb dJ7_newCapacity_11 ?_
  refine lv_istore_n (lv' := [(3, .int (p1 <<< (y24 &&& 31))), (2, .int (nI x21.1)), (0, .ref p0), (1, .int p1)]) hx hb dJ7_newCapacity_12 rfl hl (by decide) rfl (fun ls hl => ?_)
  refine lv_iload_n hx hb dJ7_newCapacity_13 rfl (lv_at hl 0 rfl) ?_
  refine lv_iload_n hx hb dJ7_newCapacity_14 rfl (lv_at hl 1 rfl) ?_
  refine lv_isub hx hb dJ7_newCapacity_15 ?_
  refine lv_istore (lv' := [(4, .int ((p1 <<< (y24 &&& 31)) - (nI x21.1))), (3, .int (p1 <<< (y24 &&& 31))), (2, .int (nI x21.1)), (0, .ref p0), (1, .int p1)]) hx hb dJ7_newCapacity_16 hl (by decide) rfl (fun ls hl => ?_)
  refine lv_iload_n hx hb dJ7_newCapacity_18 rfl (lv_at hl 2 rfl) ?_
  refine lv_iload hx hb dJ7_newCapacity_19 (lv_at hl 0 rfl) ?_
  refine lv_iload_n hx hb dJ7_newCapacity_21 rfl (lv_at hl 2 rfl) ?_
  refine lv_iconst (v := 2) hx hb dJ7_newCapacity_22 (by decide) ?_
  refine lv_aload_n hx hb dJ7_newCapacity_23 rfl (lv_at hl 3 rfl) ?_
  obtain ⟨y26, hf25, hw⟩ := hw
  refine x_getH (ci := 8) (Cn := RJ8) (T := TJ8) (N := 4) (k := 1) C hR hf25 rfl in_J8 (by decide) q282 (fun _ h9 => h9) dJ7_newCapacity_24 ?_
  refine lv_ishl hx hb dJ7_newCapacity_27 ?_
  refine lv_iadd hx hb dJ7_newCapacity_28 ?_
  refine x_calli0 (x_runS (n := 3) (As := [.int (nI x21.1), .int ((p1 <<< (y24 &&& 31)) - (nI x21.1)), .int ((nI x21.1) + (2 <<< (y26 &&& 31)))]) C hR hS (kJ4_newLength l D N0 gp _ _ (nI x21.1) ((p1 <<< (y24 &&& 31)) - (nI x21.1)) ((nI x21.1) + (2 <<< (y26 &&& 31))) _ hw) (lw_S q715 q193 q92 q194) rfl rfl (by decide +kernel) ⟨Nat.le_of_ble_eq_true rfl, Nat.le_of_ble_eq_true rfl⟩ rfl hl.1 rfl (Nat.le_of_ble_eq_true rfl) dJ7_newCapacity_29 ⟨Nat.le_refl _, Nat.le_refl _⟩) hS (fun r27 X1 h1 H locs hq hR hS => ?_)
  clear hw
  obtain ⟨e1, e2, hw⟩ := hq
  rw [e1, e2] at hR
  refine lv_istore (lv' := [(5, .int r27), (4, .int ((p1 <<< (y24 &&& 31)) - (nI x21.1))), (3, .int (p1 <<< (y24 &&& 31))), (2, .int (nI x21.1)), (0, .ref p0), (1, .int p1)]) hx hb dJ7_newCapacity_32 hl (by decide) rfl (fun ls hl => ?_)
  refine lv_iload hx hb dJ7_newCapacity_34 (lv_at hl 0 rfl) ?_
  refine lv_ldc hx hb hown (hts _ q716) dJ7_newCapacity_36 ?_
  refine lv_icmp_ne (tgt := 51) hx hb dJ7_newCapacity_38 (by decide) (fun c28 => ?_) (fun c28 => ?_)
  · replace hw := hw.2 c28
    refine lv_iload hx hb dJ7_newCapacity_51 (lv_at hl 0 rfl) ?_
    refine lv_aload_n hx hb dJ7_newCapacity_53 rfl (lv_at hl 4 rfl) ?_
    obtain ⟨y30, hf29, hw⟩ := hw
    refine x_getH (ci := 8) (Cn := RJ8) (T := TJ8) (N := 4) (k := 1) C hR hf29 rfl in_J8 (by decide) q282 (fun _ h9 => h9) dJ7_newCapacity_54 ?_
    refine lv_ishr hx hb dJ7_newCapacity_57 ?_
    exact x_endi C hR hS ⟨_, rfl, ⟨rfl, rfl, hw⟩⟩ (Nat.le_refl _) (Nat.le_refl _) dJ7_newCapacity_58
  · replace hw := hw.1 c28
    exact False.elim hw
/-- java/util/Arrays.copyOf([BI)[B -/
abbrev rmJ6_copyOf_3 (mc0 ms0 : Nat) : Room := { frames := 1, cells := mc0, slots := ms0, locals := 40 }
section
variable {p : Program} {l : Launch} {e : Env} {s : State} {m : MethodId} {args : Array Value} {below : List Frame} {meth : Method} {c : Code} {D : va_G} {N0 : Nat} {gp : Nat → Nat} {X : x_X} {mc0 ms0 : Nat}
end
def wJ6_copyOf_3 (post : Option Nat → x_H → Prop) (p0 : Nat) (p1 : Int32) (h : x_H) (mc : Nat) (ms : Nat) : Prop :=
  ∃ (t53 : Nat) (ty54 : FieldType) (x55 : vp_A), h p0 = some (t53, .inl (ty54, x55)) ∧ (p1 = (nI x55.1) → ∃ (t88 n89 : Nat) (f90 : Nat → Int32), h p0 = some (t88, .inl (.byte, (n89, .inl f90))) ∧ t88 ≠ 1 ∧ (∀ i : Nat, i < n89 → fits .byte (.int (f90 i)) = true) ∧ ∃ mc94 ms95 : Nat, 1 + mc94 ≤ mc ∧ n89 + ms95 ≤ ms ∧ ∀ q96 : Nat, h q96 = none → ∃ t97 : Nat, t97 ≠ 1 ∧ ∀ h100 : x_H, h100 = x_hs h q96 t97 (.inl (.byte, (n89, .inl f90))) → ∃ (t101 : Nat) (x102 : vp_A), h100 q96 = some (t101, .inl (.byte, x102)) ∧ t101 ≠ 1 ∧ post (some q96) h100) ∧ (¬ p1 = (nI x55.1) → ∃ mc58 ms59 : Nat, 1 + mc58 ≤ mc ∧ p1.toNatClampNeg + ms59 ≤ ms ∧ ¬ p1 < 0 ∧ p1.toNatClampNeg ≤ 536870912 ∧ ∀ q62 : Nat, h q62 = none → ∃ t63 : Nat, t63 ≠ 1 ∧ ∀ h66 : x_H, h66 = x_hs h q62 t63 (.inl (.byte, (p1.toNatClampNeg, .inl (fun _ => 0)))) → ∃ (t67 : Nat) (ty68 : FieldType) (x69 : vp_A), h66 p0 = some (t67, .inl (ty68, x69)) ∧ ∃ (t73 n75 : Nat) (f71 : Nat → Int32) (t74 n76 : Nat) (f72 : Nat → Int32), h66 p0 = some (t73, .inl (.byte, (n75, .inl f71))) ∧ t73 ≠ 1 ∧ h66 q62 = some (t74, .inl (.byte, (n76, .inl f72))) ∧ t74 ≠ 1 ∧ ¬ (0 : Int32) < 0 ∧ ¬ (0 : Int32) < 0 ∧ ¬ (if p1 < (nI x69.1) then p1 else (nI x69.1)) < 0 ∧ (0 : Int32).toNatClampNeg + (if p1 < (nI x69.1) then p1 else (nI x69.1)).toNatClampNeg ≤ n75 ∧ (0 : Int32).toNatClampNeg + (if p1 < (nI x69.1) then p1 else (nI x69.1)).toNatClampNeg ≤ n76 ∧ (∀ i : Nat, i < (if p1 < (nI x69.1) then p1 else (nI x69.1)).toNatClampNeg → fits .byte (.int (f71 ((0 : Int32).toNatClampNeg + i))) = true) ∧ ∀ h87 : x_H, h87 = x_hs h66 q62 t74 (.inl (.byte, (n76, .inl (va_cpy f71 f72 (0 : Int32).toNatClampNeg (0 : Int32).toNatClampNeg (if p1 < (nI x69.1) then p1 else (nI x69.1)).toNatClampNeg)))) → post (some q62) h87)
theorem kJ6_copyOf_3 (l : Launch) (D : va_G) (N0 : Nat) (gp : Nat → Nat) (X : x_X) (p0 : Nat) (p1 : Int32) (h : x_H) (mc : Nat) (ms : Nat) (post : Option Nat → x_H → Prop) (hw : wJ6_copyOf_3 post p0 p1 h mc ms) : Met l yJ6_copyOf_3 (ws_ yJ6_copyOf_3 cJ6_copyOf_3 3 (some (.array .byte))) (rmJ6_copyOf_3 mc ms) (x_Pc D N0 gp X h [.ref p0, .int p1]) (x_Qc D N0 (x_Va (qJa X post))) mc ms (x_A N0) := by
  refine x_start (lv := [(0, .ref p0), (1, .int p1)]) (by decide) rfl (Nat.le_of_ble_eq_true rfl) rfl ?_
  intro p e s m below meth c C hR ls hl
  have hS : va_S (x_A N0) s.heap s.heap [] := va_S.rf
  obtain ⟨⟨hx, hb, hml, hown, hts⟩, hr, hlocks, hG, hN⟩ := id C
  unfold wJ6_copyOf_3 at hw
  have hk : 0 + mc ≤ mc := Nat.le_of_eq (Nat.zero_add _)
  have hn : 0 + ms ≤ ms := Nat.le_of_eq (Nat.zero_add _)
  refine lv_iload_n hx hb dJ6_copyOf_3_0 rfl (lv_at hl 1 rfl) ?_
  refine lv_aload_n hx hb dJ6_copyOf_3_1 rfl (lv_at hl 0 rfl) ?_
  obtain ⟨t53, ty54, x55, he56, hw⟩ := hw
  refine x_alen C (hR.rdH he56) dJ6_copyOf_3_2 ?_
  refine lv_icmp_ne (tgt := 14) hx hb dJ6_copyOf_3_3 (by decide) (fun c57 => ?_) (fun c57 => ?_)
  · replace hw := hw.2 c57
    refine lv_iload_n hx hb dJ6_copyOf_3_14 rfl (lv_at hl 1 rfl) ?_
    obtain ⟨mc58, ms59, hmc58, hms59, hw⟩ := hw
    obtain ⟨g60, g61, hw⟩ := hw
    refine x_newB C hR hS q175 g60 g61 (x_bud hk hmc58) (x_bud hn hms59) dJ6_copyOf_3_15 (fun q62 H hq64 hRn hS => ?_)
    obtain ⟨t63, ht65, hw⟩ := hw q62 hq64
    have hR := hRn t63 ht65
    obtain ⟨h66, eh66⟩ : ∃ z, z = x_hs h q62 t63 (.inl (.byte, (p1.toNatClampNeg, .inl (fun _ => 0)))) := ⟨_, rfl⟩
    rw [← eh66] at hR
    replace hw := hw h66 eh66
    have hk := x_budN hk hmc58
    have hn := x_budN hn hms59
    refine lv_astore_n (lv' := [(2, .ref q62), (0, .ref p0), (1, .int p1)]) hx hb dJ6_copyOf_3_17 rfl hl (by decide) rfl (fun ls hl => ?_)
    refine lv_aload_n hx hb dJ6_copyOf_3_18 rfl (lv_at hl 1 rfl) ?_
    refine lv_iconst (v := 0) hx hb dJ6_copyOf_3_19 (by decide) ?_
    refine lv_aload_n hx hb dJ6_copyOf_3_20 rfl (lv_at hl 0 rfl) ?_
    refine lv_iconst (v := 0) hx hb dJ6_copyOf_3_21 (by decide) ?_
    refine lv_aload_n hx hb dJ6_copyOf_3_22 rfl (lv_at hl 1 rfl) ?_
    obtain ⟨t67, ty68, x69, he70, hw⟩ := hw
    refine x_alen C (hR.rdH he70) dJ6_copyOf_3_23 ?_
    refine lv_iload_n hx hb dJ6_copyOf_3_24 rfl (lv_at hl 2 rfl) ?_
    refine va_mmin hx hb (hml.trans hl.1.symm) hown (hts _ q228) (hts _ q229) (hts _ q93) (hts _ q230) (Nat.le_of_ble_eq_true rfl) (Nat.le_of_ble_eq_true rfl) (x_le hk) (x_le hn) dJ6_copyOf_3_25 ?_
    obtain ⟨t73, n75, f71, t74, n76, f72, he77, ht79, he78, ht80, g81, g82, g83, g84, g85, g86, hw⟩ := hw
    refine x_copyB C hR hS q231 q233 q232 q95 he77 ht79 he78 ht80 g81 g82 g83 g84 g85 g86 hl.1 (Nat.le_of_ble_eq_true rfl) (Nat.le_of_ble_eq_true rfl) dJ6_copyOf_3_28 (fun H locs hR hS => ?_)
    obtain ⟨h87, eh87⟩ : ∃ z, z = x_hs h66 q62 t74 (.inl (.byte, (n76, .inl (va_cpy f71 f72 (0 : Int32).toNatClampNeg (0 : Int32).toNatClampNeg (if p1 < (nI x69.1) then p1 else (nI x69.1)).toNatClampNeg)))) := ⟨_, rfl⟩
    rw [← eh87] at hR
    replace hw := hw h87 eh87
    refine lv_aload_n hx hb dJ6_copyOf_3_31 rfl (lv_at hl 0 rfl) ?_
    exact x_enda (v := (some q62)) C (Or.inr ⟨_, rfl⟩) hR hS ⟨_, rfl, ⟨rfl, hw⟩⟩ (x_le hk) (x_le hn) dJ6_copyOf_3_32
  · replace hw := hw.1 c57
    refine lv_aload_n hx hb dJ6_copyOf_3_6 rfl (lv_at hl 0 rfl) ?_
    obtain ⟨t88, n89, f90, he91, ht92, hf93, hw⟩ := hw
    obtain ⟨mc94, ms95, hmc94, hms95, hw⟩ := hw
    refine x_cloneB C hR hS q720 q721 q722 q723 q724 q725 he91 ht92 hf93 hl.1 (Nat.le_of_ble_eq_true rfl) (Nat.le_of_ble_eq_true rfl) (x_bud hk hmc94) (x_bud hn hms95) dJ6_copyOf_3_7 (fun q96 H hq98 hRn hS => ?_)
    obtain ⟨t97, ht99, hw⟩ := hw q96 hq98
    have hR := hRn t97 ht99
    obtain ⟨h100, eh100⟩ : ∃ z, z = x_hs h q96 t97 (.inl (.byte, (n89, .inl f90))) := ⟨_, rfl⟩
    rw [← eh100] at hR
    replace hw := hw h100 eh100
    have hk := x_budN hk hmc94
    have hn := x_budN hn hms95
    obtain ⟨t101, x102, he103, ht104, hw⟩ := hw
    refine x_castB C hR he103 ht104 q726 dJ6_copyOf_3_10 ?_
    exact x_enda (v := (some q96)) C (Or.inr ⟨_, rfl⟩) hR hS ⟨_, rfl, ⟨rfl, hw⟩⟩ (x_le hk) (x_le hn) dJ6_copyOf_3_13
/-- java/lang/AbstractStringBuilder.ensureCapacityInternal(I)V -/
abbrev rmJ7_ensureCapacityInternal (mc0 ms0 : Nat) : Room := { frames := 3, cells := mc0, slots := ms0, locals := 88 }
section
variable {p : Program} {l : Launch} {e : Env} {s : State} {m : MethodId} {args : Array Value} {below : List Frame} {meth : Method} {c : Code} {D : va_G} {N0 : Nat} {gp : Nat → Nat} {X : x_X} {mc0 ms0 : Nat}
def wJ7_ensureCapacityInternal_b38 (post : x_H → Prop) (p0 : Nat) (p1 : Int32) (h : x_H) (mc : Nat) (ms : Nat) : Prop :=
  post h
theorem kJ7_ensureCapacityInternal_b38 {post : x_H → Prop} {p0 : Nat} {p1 : Int32} (C : x_C p s m args meth c cJ7_ensureCapacityInternal 3 none RJ7 D N0 gp) {h : x_H} {mc : Nat} {ms : Nat} {k n : Nat} {H : Heap} {locs : List Loc} {ls : Array Slot} (hR : x_R D s N0 X h H) (hS : va_S (x_A N0) s.heap H locs) (hk : k + mc ≤ mc0) (hn : n + ms ≤ ms0) (hl : lv_has ls 3 []) (hw : wJ7_ensureCapacityInternal_b38 post p0 p1 h mc ms) : W p l e (rmJ7_ensureCapacityInternal mc0 ms0) s m args below meth c H locs k n (MQ below (x_Qc D N0 (x_Vv (qJv X post))) args s mc0 ms0 (x_A N0)) (F0 m 38 ls []) := by
  obtain ⟨⟨hx, hb, hml, hown, hts⟩, hr, hlocks, hG, hN⟩ := id C
  unfold wJ7_ensureCapacityInternal_b38 at hw
  exact x_endv C hR hS ⟨rfl, ⟨rfl, hw⟩⟩ (x_le hk) (x_le hn) dJ7_ensureCapacityInternal_38
end
def wJ7_ensureCapacityInternal (post : x_H → Prop) (p0 : Nat) (p1 : Int32) (h : x_H) (mc : Nat) (ms : Nat) : Prop :=
  ∃ v33 : Option Nat, x_f h p0 8 0 (va_rf v33) ∧ ∃ a34 : Nat, v33 = some a34 ∧ ∃ (t35 : Nat) (ty36 : FieldType) (x37 : vp_A), h a34 = some (t35, .inl (ty36, x37)) ∧ ∃ y40 : Int32, x_f h p0 8 1 (.int y40) ∧ ((p1 - ((nI x37.1) >>> (y40 &&& 31))) ≤ 0 → wJ7_ensureCapacityInternal_b38 post p0 p1 h mc ms) ∧ (¬ (p1 - ((nI x37.1) >>> (y40 &&& 31))) ≤ 0 → ∃ v43 : Option Nat, x_f h p0 8 0 (va_rf v43) ∧ ∃ (t45 : Nat) (fs46 : List Value), h p0 = some (t45, .inr (8, fs46)) ∧ wJ7_newCapacity (fun r44 => ∃ y49 : Int32, x_f h p0 8 1 (.int y49) ∧ ∃ a50 : Nat, v43 = some a50 ∧ ∃ ca52 cb53 mc54 ms55 : Nat, ca52 + mc54 ≤ mc ∧ cb53 + ms55 ≤ ms ∧ wJ6_copyOf_3 (fun r51 h56 => ∃ (t57 : Nat) (fs58 : List Value), h56 p0 = some (t57, .inr (8, fs58)) ∧ t57 ≠ 1 ∧ 0 < fs58.length ∧ ∀ h62 : x_H, h62 = x_hs h56 p0 t57 (.inr (8, fs58.set 0 (va_rf r51))) → wJ7_ensureCapacityInternal_b38 post p0 p1 h62 mc54 ms55) a50 (r44 <<< (y49 &&& 31)) h ca52 cb53) p0 p1 h)
theorem kJ7_ensureCapacityInternal (l : Launch) (D : va_G) (N0 : Nat) (gp : Nat → Nat) (X : x_X) (p0 : Nat) (p1 : Int32) (h : x_H) (mc : Nat) (ms : Nat) (post : x_H → Prop) (hw : wJ7_ensureCapacityInternal post p0 p1 h mc ms) : Met l yJ7_ensureCapacityInternal (ws_ yJ7_ensureCapacityInternal cJ7_ensureCapacityInternal 3 none) (rmJ7_ensureCapacityInternal mc ms) (x_Pc D N0 gp X h [.ref p0, .int p1]) (x_Qc D N0 (x_Vv (qJv X post))) mc ms (x_A N0) := by
  refine x_start (lv := [(0, .ref p0), (1, .int p1)]) (by decide) rfl (Nat.le_of_ble_eq_true rfl) rfl ?_
  intro p e s m below meth c C hR ls hl
  have hS : va_S (x_A N0) s.heap s.heap [] := va_S.rf
  obtain ⟨⟨hx, hb, hml, hown, hts⟩, hr, hlocks, hG, hN⟩ := id C
  unfold wJ7_ensureCapacityInternal at hw
  have hk : 0 + mc ≤ mc := Nat.le_of_eq (Nat.zero_add _)
  have hn : 0 + ms ≤ ms := Nat.le_of_eq (Nat.zero_add _)
  refine lv_aload_n hx hb dJ7_ensureCapacityInternal_0 rfl (lv_at hl 0 rfl) ?_
  obtain ⟨v33, hf32, hw⟩ := hw
  refine x_getH (ci := 8) (Cn := RJ8) (T := TJ8) (N := 4) (k := 0) C hR hf32 rfl in_J8 (by decide) q281 (fun _ h9 => h9) dJ7_ensureCapacityInternal_1 ?_
  obtain ⟨a34, ea34, hw⟩ := hw
  rw [ea34]
  obtain ⟨t35, ty36, x37, he38, hw⟩ := hw
  refine x_alen C (hR.rdH he38) dJ7_ensureCapacityInternal_4 ?_
  refine lv_aload_n hx hb dJ7_ensureCapacityInternal_5 rfl (lv_at hl 0 rfl) ?_
  obtain ⟨y40, hf39, hw⟩ := hw
  refine x_getH (ci := 8) (Cn := RJ8) (T := TJ8) (N := 4) (k := 1) C hR hf39 rfl in_J8 (by decide) q282 (fun _ h9 => h9) dJ7_ensureCapacityInternal_6 ?_
  refine lv_ishr hx hb dJ7_ensureCapacityInternal_9 ?_
  refine lv_istore_n (lv' := [(2, .int ((nI x37.1) >>> (y40 &&& 31))), (0, .ref p0), (1, .int p1)]) hx hb dJ7_ensureCapacityInternal_10 rfl hl (by decide) rfl (fun ls hl => ?_)
  refine lv_iload_n hx hb dJ7_ensureCapacityInternal_11 rfl (lv_at hl 2 rfl) ?_
  refine lv_iload_n hx hb dJ7_ensureCapacityInternal_12 rfl (lv_at hl 0 rfl) ?_
  refine lv_isub hx hb dJ7_ensureCapacityInternal_13 ?_
  refine lv_if_le (tgt := 38) hx hb dJ7_ensureCapacityInternal_14 (by decide) (fun c41 => ?_) (fun c41 => ?_)
  · replace hw := hw.1 c41
    exact kJ7_ensureCapacityInternal_b38 C hR hS hk hn (lv_sub hl [] rfl) hw
  · replace hw := hw.2 c41
    refine lv_aload_n hx hb dJ7_ensureCapacityInternal_17 rfl (lv_at hl 1 rfl) ?_
    refine lv_aload_n hx hb dJ7_ensureCapacityInternal_18 rfl (lv_at hl 1 rfl) ?_
    obtain ⟨v43, hf42, hw⟩ := hw
    refine x_getH (ci := 8) (Cn := RJ8) (T := TJ8) (N := 4) (k := 0) C hR hf42 rfl in_J8 (by decide) q281 (fun _ h9 => h9) dJ7_ensureCapacityInternal_19 ?_
    refine lv_aload_n hx hb dJ7_ensureCapacityInternal_22 rfl (lv_at hl 1 rfl) ?_
    refine lv_iload_n hx hb dJ7_ensureCapacityInternal_23 rfl (lv_at hl 2 rfl) ?_
    obtain ⟨t45, fs46, he47, hw⟩ := hw
    refine x_calli0 (x_runU (n := 1) (As := [.int p1]) C hR hS (kJ7_newCapacity l D N0 gp _ p0 p1 h _ hw) (x_cwP C 1 8 rfl q711 q1583 q712 q713 q97 q714 rfl rfl (by decide +kernel) ⟨Nat.le_of_ble_eq_true rfl, Nat.le_of_ble_eq_true rfl⟩) (x_recv C (hR.rdH he47) rfl) rfl hl.1 rfl (by simp only [List.map_cons, List.map_nil, List.sum_cons, List.sum_nil, x_cat1]; exact Nat.le_of_ble_eq_true rfl) dJ7_ensureCapacityInternal_24 ⟨x_bud0 hk, x_bud0 hn⟩) hS (fun r44 X1 h1 H locs hq hR hS => ?_)
    clear hw
    obtain ⟨e1, e2, hw⟩ := hq
    rw [e1, e2] at hR
    refine lv_aload_n hx hb dJ7_ensureCapacityInternal_27 rfl (lv_at hl 1 rfl) ?_
    obtain ⟨y49, hf48, hw⟩ := hw
    refine x_getH (ci := 8) (Cn := RJ8) (T := TJ8) (N := 4) (k := 1) C hR hf48 rfl in_J8 (by decide) q282 (fun _ h9 => h9) dJ7_ensureCapacityInternal_28 ?_
    refine lv_ishl hx hb dJ7_ensureCapacityInternal_31 ?_
    obtain ⟨a50, ea50, hw⟩ := hw
    rw [ea50]
    obtain ⟨ca52, cb53, mc54, ms55, hca52, hcb53, hw⟩ := hw
    refine x_calla (x_runS (n := 2) (As := [.ref a50, .int (r44 <<< (y49 &&& 31))]) C hR hS (kJ6_copyOf_3 l D N0 gp _ a50 (r44 <<< (y49 &&& 31)) h ca52 cb53 _ hw) (lw_S q717 q718 q94 q719) rfl rfl (by decide +kernel) ⟨Nat.le_of_ble_eq_true rfl, Nat.le_of_ble_eq_true rfl⟩ rfl hl.1 rfl (Nat.le_of_ble_eq_true rfl) dJ7_ensureCapacityInternal_32 ⟨x_bud hk hca52, x_bud hn hcb53⟩) hS (fun r51 X1 h56 H locs hq hR hS => ?_)
    clear hw
    obtain ⟨e1, hw⟩ := hq
    rw [e1] at hR
    have hk := x_budN hk hca52
    have hn := x_budN hn hcb53
    obtain ⟨t57, fs58, he59, ht60, hl61, hw⟩ := hw
    refine x_putH (ci := 8) (Cn := RJ8) (T := TJ8) (N := 4) (v := va_rf r51) C hR hS he59 ht60 rfl in_J8 tyJ8_ok nmJ8 0 (by decide) q281 (fun _ h9 => h9) rfl (x_narA _ _) (x_fitA _ _) hl61 dJ7_ensureCapacityInternal_35 (fun H locs hR hS => ?_)
    obtain ⟨h62, eh62⟩ : ∃ z, z = x_hs h56 p0 t57 (.inr (8, fs58.set 0 (va_rf r51))) := ⟨_, rfl⟩
    rw [← eh62] at hR
    replace hw := hw h62 eh62
    exact kJ7_ensureCapacityInternal_b38 C hR hS hk hn (lv_sub hl [] rfl) hw
/-- java/lang/AbstractStringBuilder.isLatin1()Z -/
abbrev rmJ7_isLatin1 : Room := { frames := 0, cells := 0, slots := 0, locals := 0 }
section
variable {p : Program} {l : Launch} {e : Env} {s : State} {m : MethodId} {args : Array Value} {below : List Frame} {meth : Method} {c : Code} {D : va_G} {N0 : Nat} {gp : Nat → Nat} {X : x_X}
def wJ7_isLatin1_b18 (post : Int32 → Prop) (p0 : Nat) (h : x_H) (s0 : Int32) : Prop :=
  narrow .boolean (.int s0) = .int s0 ∧ post s0 
theorem kJ7_isLatin1_b18 {post : Int32 → Prop} {p0 : Nat} {h : x_H} (C : x_C p s m args meth c cJ7_isLatin1 1 (some .boolean) RJ7 D N0 gp) {s0 : Int32} {H : Heap} {locs : List Loc} {ls : Array Slot} (hR : x_R D s N0 X h H) (hS : va_S (x_A N0) s.heap H locs) (hl : lv_has ls 1 []) (hw : wJ7_isLatin1_b18 post p0 h s0) : W p l e rmJ7_isLatin1 s m args below meth c H locs 0 0 (MQ below (x_Qc D N0 (x_Vi (qPi X h post))) args s 0 0 (x_A N0)) (F0 m 18 ls [.int s0]) := by
  obtain ⟨⟨hx, hb, hml, hown, hts⟩, hr, hlocks, hG, hN⟩ := id C
  unfold wJ7_isLatin1_b18 at hw
  obtain ⟨hz, hw⟩ := hw
  exact x_endz C hR hS hz ⟨_, rfl, ⟨rfl, rfl, hw⟩⟩ (Nat.le_refl _) (Nat.le_refl _) dJ7_isLatin1_18
def wJ7_isLatin1_b17 (post : Int32 → Prop) (p0 : Nat) (h : x_H) : Prop :=
  wJ7_isLatin1_b18 post p0 h 0
theorem kJ7_isLatin1_b17 {post : Int32 → Prop} {p0 : Nat} {h : x_H} (C : x_C p s m args meth c cJ7_isLatin1 1 (some .boolean) RJ7 D N0 gp) {H : Heap} {locs : List Loc} {ls : Array Slot} (hR : x_R D s N0 X h H) (hS : va_S (x_A N0) s.heap H locs) (hl : lv_has ls 1 []) (hw : wJ7_isLatin1_b17 post p0 h ) : W p l e rmJ7_isLatin1 s m args below meth c H locs 0 0 (MQ below (x_Qc D N0 (x_Vi (qPi X h post))) args s 0 0 (x_A N0)) (F0 m 17 ls []) := by
  obtain ⟨⟨hx, hb, hml, hown, hts⟩, hr, hlocks, hG, hN⟩ := id C
  unfold wJ7_isLatin1_b17 at hw
  refine lv_iconst (v := 0) hx hb dJ7_isLatin1_17 (by decide) ?_
  exact kJ7_isLatin1_b18 C hR hS (lv_sub hl [] rfl) hw
end
def wJ7_isLatin1 (post : Int32 → Prop) (p0 : Nat) (h : x_H) : Prop :=
  ((1 : Int32) = 0 → wJ7_isLatin1_b17 post p0 h ) ∧ (¬ (1 : Int32) = 0 → ∃ y7 : Int32, x_f h p0 8 1 (.int y7) ∧ (y7 = 0 → wJ7_isLatin1_b18 post p0 h 1) ∧ (¬ y7 = 0 → wJ7_isLatin1_b17 post p0 h ))
theorem kJ7_isLatin1 (l : Launch) (D : va_G) (N0 : Nat) (gp : Nat → Nat) (X : x_X) (p0 : Nat) (h : x_H) (post : Int32 → Prop) (hw : wJ7_isLatin1 post p0 h ) : Met l yJ7_isLatin1 (ws_ yJ7_isLatin1 cJ7_isLatin1 1 (some .boolean)) rmJ7_isLatin1 (x_Pc D N0 gp X h [.ref p0]) (x_Qc D N0 (x_Vi (qPi X h post))) 0 0 (x_A N0) := by
  refine x_start (lv := [(0, .ref p0)]) (by decide) rfl (Nat.le_of_ble_eq_true rfl) rfl ?_
  intro p e s m below meth c C hR ls hl
  have hS : va_S (x_A N0) s.heap s.heap [] := va_S.rf
  obtain ⟨⟨hx, hb, hml, hown, hts⟩, hr, hlocks, hG, hN⟩ := id C
  unfold wJ7_isLatin1 at hw
  refine x_gets C hS hG.2.2.1.2.2.1 q272 dJ7_isLatin1_0 ?_
  refine lv_if_eq (tgt := 17) hx hb dJ7_isLatin1_3 (by decide) (fun c5 => ?_) (fun c5 => ?_)
  · replace hw := hw.1 c5
    exact kJ7_isLatin1_b17 C hR hS (lv_sub hl [] rfl) hw
  · replace hw := hw.2 c5
    refine lv_aload_n hx hb dJ7_isLatin1_6 rfl (lv_at hl 0 rfl) ?_
    obtain ⟨y7, hf6, hw⟩ := hw
    refine x_getH (ci := 8) (Cn := RJ8) (T := TJ8) (N := 4) (k := 1) C hR hf6 rfl in_J8 (by decide) q282 (fun _ h9 => h9) dJ7_isLatin1_7 ?_
    refine lv_if_ne (tgt := 17) hx hb dJ7_isLatin1_10 (by decide) (fun c8 => ?_) (fun c8 => ?_)
    · replace hw := hw.2 c8
      exact kJ7_isLatin1_b17 C hR hS (lv_sub hl [] rfl) hw
    · replace hw := hw.1 c8
      refine lv_iconst (v := 1) hx hb dJ7_isLatin1_13 (by decide) ?_
      refine lv_goto (tgt := 18) hx hb dJ7_isLatin1_14 (by decide) ?_
      exact kJ7_isLatin1_b18 C hR hS (lv_sub hl [] rfl) hw
/-- java/lang/StringLatin1.canEncode(C)Z -/
abbrev rmJ17_canEncode : Room := { frames := 0, cells := 0, slots := 0, locals := 0 }
section
variable {p : Program} {l : Launch} {e : Env} {s : State} {m : MethodId} {args : Array Value} {below : List Frame} {meth : Method} {c : Code} {D : va_G} {N0 : Nat} {gp : Nat → Nat} {X : x_X} {h : x_H}
def wJ17_canEncode_b12 (post : Int32 → Prop) (p0 : Int32) (s0 : Int32) : Prop :=
  narrow .boolean (.int s0) = .int s0 ∧ post s0 
theorem kJ17_canEncode_b12 {post : Int32 → Prop} {p0 : Int32} (C : x_C p s m args meth c cJ17_canEncode 1 (some .boolean) RJ17 D N0 gp) {s0 : Int32} {H : Heap} {locs : List Loc} {ls : Array Slot} (hR : x_R D s N0 X h H) (hS : va_S (x_A N0) s.heap H locs) (hl : lv_has ls 1 []) (hw : wJ17_canEncode_b12 post p0 s0) : W p l e rmJ17_canEncode s m args below meth c H locs 0 0 (MQ below (x_Qc D N0 (x_Vi (qPi X h post))) args s 0 0 (x_A N0)) (F0 m 12 ls [.int s0]) := by
  obtain ⟨⟨hx, hb, hml, hown, hts⟩, hr, hlocks, hG, hN⟩ := id C
  unfold wJ17_canEncode_b12 at hw
  obtain ⟨hz, hw⟩ := hw
  exact x_endz C hR hS hz ⟨_, rfl, ⟨rfl, rfl, hw⟩⟩ (Nat.le_refl _) (Nat.le_refl _) dJ17_canEncode_12
end
def wJ17_canEncode (post : Int32 → Prop) (p0 : Int32) : Prop :=
  ((255 : Int32) < p0 → wJ17_canEncode_b12 post p0 0) ∧ (¬ (255 : Int32) < p0 → wJ17_canEncode_b12 post p0 1)
theorem kJ17_canEncode (l : Launch) (D : va_G) (N0 : Nat) (gp : Nat → Nat) (X : x_X) (h : x_H) (p0 : Int32) (post : Int32 → Prop) (hw : wJ17_canEncode post p0 ) : Met l yJ17_canEncode (ws_ yJ17_canEncode cJ17_canEncode 1 (some .boolean)) rmJ17_canEncode (x_Pc D N0 gp X h [.int p0]) (x_Qc D N0 (x_Vi (qPi X h post))) 0 0 (x_A N0) := by
  refine x_start (lv := [(0, .int p0)]) (by decide) rfl (Nat.le_of_ble_eq_true rfl) rfl ?_
  intro p e s m below meth c C hR ls hl
  have hS : va_S (x_A N0) s.heap s.heap [] := va_S.rf
  obtain ⟨⟨hx, hb, hml, hown, hts⟩, hr, hlocks, hG, hN⟩ := id C
  unfold wJ17_canEncode at hw
  refine lv_iload_n hx hb dJ17_canEncode_0 rfl (lv_at hl 0 rfl) ?_
  refine lv_sipush (v := 255) hx hb dJ17_canEncode_1 (by decide) ?_
  refine lv_icmp_gt (tgt := 11) hx hb dJ17_canEncode_4 (by decide) (fun c2 => ?_) (fun c2 => ?_)
  · replace hw := hw.1 c2
    refine lv_iconst (v := 0) hx hb dJ17_canEncode_11 (by decide) ?_
    exact kJ17_canEncode_b12 C hR hS (lv_sub hl [] rfl) hw
  · replace hw := hw.2 c2
    refine lv_iconst (v := 1) hx hb dJ17_canEncode_7 (by decide) ?_
    refine lv_goto (tgt := 12) hx hb dJ17_canEncode_8 (by decide) ?_
    exact kJ17_canEncode_b12 C hR hS (lv_sub hl [] rfl) hw
/-- java/lang/AbstractStringBuilder.append(C)Ljava/lang/AbstractStringBuilder; -/
abbrev rmJ7_append_3 (mc0 ms0 : Nat) : Room := { frames := 4, cells := mc0, slots := ms0, locals := 110 }
section
variable {p : Program} {l : Launch} {e : Env} {s : State} {m : MethodId} {args : Array Value} {below : List Frame} {meth : Method} {c : Code} {D : va_G} {N0 : Nat} {gp : Nat → Nat} {X : x_X} {mc0 ms0 : Nat}
def wJ7_append_3_b45 (post : Option Nat → x_H → Prop) (p0 : Nat) (p1 : Int32) (h : x_H) (mc : Nat) (ms : Nat) : Prop :=
  ∃ (t87 : Nat) (fs88 : List Value), h p0 = some (t87, .inr (8, fs88)) ∧ wJ7_isLatin1 (fun r86 => (r86 = 0 → ∃ v92 : Option Nat, x_f h p0 8 0 (va_rf v92) ∧ ∃ y94 : Int32, x_f h p0 8 3 (.int y94) ∧ ∃ (t95 : Nat) (fs96 : List Value), h p0 = some (t95, .inr (8, fs96)) ∧ t95 ≠ 1 ∧ 3 < fs96.length ∧ ∀ h100 : x_H, h100 = x_hs h p0 t95 (.inr (8, fs96.set 3 (.int (y94 + 1)))) → False) ∧ (¬ r86 = 0 → False)) p0 h
theorem kJ7_append_3_b45 {post : Option Nat → x_H → Prop} {p0 : Nat} {p1 : Int32} (C : x_C p s m args meth c cJ7_append_3 2 (some (.object "java/lang/AbstractStringBuilder")) RJ7 D N0 gp) {h : x_H} {mc : Nat} {ms : Nat} {k n : Nat} {H : Heap} {locs : List Loc} {ls : Array Slot} (hR : x_R D s N0 X h H) (hS : va_S (x_A N0) s.heap H locs) (hk : k + mc ≤ mc0) (hn : n + ms ≤ ms0) (hl : lv_has ls 2 [(0, .ref p0), (1, .int p1)]) (hw : wJ7_append_3_b45 post p0 p1 h mc ms) : W p l e (rmJ7_append_3 mc0 ms0) s m args below meth c H locs k n (MQ below (x_Qc D N0 (x_Va (qJa X post))) args s mc0 ms0 (x_A N0)) (F0 m 45 ls []) := by
  obtain ⟨⟨hx, hb, hml, hown, hts⟩, hr, hlocks, hG, hN⟩ := id C
  unfold wJ7_append_3_b45 at hw
  refine lv_aload_n hx hb dJ7_append_3_45 rfl (lv_at hl 0 rfl) ?_
  obtain ⟨t87, fs88, he89, hw⟩ := hw
  refine x_calli0 (x_runU (n := 0) (As := []) C hR hS (kJ7_isLatin1 l D N0 gp _ p0 h _ hw) (va_cwU 0 hts (lw_U q727 q729 q730 q728 q97 q731) rfl rfl rfl rfl (by decide +kernel) ⟨Nat.le_of_ble_eq_true rfl, Nat.le_of_ble_eq_true rfl⟩) (x_recv C (hR.rdH he89) rfl) rfl hl.1 rfl (Nat.le_of_ble_eq_true rfl) dJ7_append_3_46 ⟨x_bud0 hk, x_bud0 hn⟩) hS (fun r86 X1 h1 H locs hq hR hS => ?_)
  clear hw
  obtain ⟨e1, e2, hw⟩ := hq
  rw [e1, e2] at hR
  refine lv_if_eq (tgt := 56) hx hb dJ7_append_3_49 (by decide) (fun c90 => ?_) (fun c90 => ?_)
  · replace hw := hw.1 c90
    refine lv_aload_n hx hb dJ7_append_3_56 rfl (lv_at hl 0 rfl) ?_
    obtain ⟨v92, hf91, hw⟩ := hw
    refine x_getH (ci := 8) (Cn := RJ8) (T := TJ8) (N := 4) (k := 0) C hR hf91 rfl in_J8 (by decide) q281 (fun _ h9 => h9) dJ7_append_3_57 ?_
    refine lv_aload_n hx hb dJ7_append_3_60 rfl (lv_at hl 0 rfl) ?_
    refine lv_dup hx hb dJ7_append_3_61 rfl ?_
    obtain ⟨y94, hf93, hw⟩ := hw
    refine x_getH (ci := 8) (Cn := RJ8) (T := TJ8) (N := 4) (k := 3) C hR hf93 rfl in_J8 (by decide) q285 (fun _ h9 => h9) dJ7_append_3_62 ?_
    refine lv_dup_x1 hx hb dJ7_append_3_65 rfl rfl ?_
    refine lv_iconst (v := 1) hx hb dJ7_append_3_66 (by decide) ?_
    refine lv_iadd hx hb dJ7_append_3_67 ?_
    obtain ⟨t95, fs96, he97, ht98, hl99, hw⟩ := hw
    refine x_putH (ci := 8) (Cn := RJ8) (T := TJ8) (N := 4) (v := .int (y94 + 1)) C hR hS he97 ht98 rfl in_J8 tyJ8_ok nmJ8 3 (by decide) q285 (fun _ h9 => h9) rfl rfl rfl hl99 dJ7_append_3_68 (fun H locs hR hS => ?_)
    obtain ⟨h100, eh100⟩ : ∃ z, z = x_hs h p0 t95 (.inr (8, fs96.set 3 (.int (y94 + 1)))) := ⟨_, rfl⟩
    rw [← eh100] at hR
    replace hw := hw h100 eh100
    refine lv_iload_n hx hb dJ7_append_3_71 rfl (lv_at hl 1 rfl) ?_
    exact False.elim hw
  · replace hw := hw.2 c90
    refine lv_aload_n hx hb dJ7_append_3_52 rfl (lv_at hl 0 rfl) ?_
    exact False.elim hw
end
def wJ7_append_3 (post : Option Nat → x_H → Prop) (p0 : Nat) (p1 : Int32) (h : x_H) (mc : Nat) (ms : Nat) : Prop :=
  ∃ y52 : Int32, x_f h p0 8 3 (.int y52) ∧ ∃ (t58 : Nat) (fs59 : List Value), h p0 = some (t58, .inr (8, fs59)) ∧ ∃ ca53 cb54 mc55 ms56 : Nat, ca53 + mc55 ≤ mc ∧ cb54 + ms56 ≤ ms ∧ wJ7_ensureCapacityInternal (fun h57 => ∃ (t62 : Nat) (fs63 : List Value), h57 p0 = some (t62, .inr (8, fs63)) ∧ wJ7_isLatin1 (fun r61 => (r61 = 0 → wJ7_append_3_b45 post p0 p1 h57 mc55 ms56) ∧ (¬ r61 = 0 → wJ17_canEncode (fun r66 => (r66 = 0 → wJ7_append_3_b45 post p0 p1 h57 mc55 ms56) ∧ (¬ r66 = 0 → ∃ v69 : Option Nat, x_f h57 p0 8 0 (va_rf v69) ∧ ∃ y71 : Int32, x_f h57 p0 8 3 (.int y71) ∧ ∃ (t72 : Nat) (fs73 : List Value), h57 p0 = some (t72, .inr (8, fs73)) ∧ t72 ≠ 1 ∧ 3 < fs73.length ∧ ∀ h77 : x_H, h77 = x_hs h57 p0 t72 (.inr (8, fs73.set 3 (.int (y71 + 1)))) → ∃ a78 : Nat, v69 = some a78 ∧ ∃ (t79 n80 : Nat) (f81 : Nat → Int32), h77 a78 = some (t79, .inl (.byte, (n80, .inl f81))) ∧ t79 ≠ 1 ∧ vp_in y71 n80 ∧ ∀ h85 : x_H, h85 = x_hs h77 a78 t79 (.inl (.byte, (n80, .inl (upd f81 y71.toNatClampNeg (vp_nar .byte p1.toInt8.toInt32))))) → post (some p0) h85)) p1)) p0 h57) p0 (y52 + 1) h ca53 cb54
theorem kJ7_append_3 (l : Launch) (D : va_G) (N0 : Nat) (gp : Nat → Nat) (X : x_X) (p0 : Nat) (p1 : Int32) (h : x_H) (mc : Nat) (ms : Nat) (post : Option Nat → x_H → Prop) (hw : wJ7_append_3 post p0 p1 h mc ms) : Met l yJ7_append_3 (ws_ yJ7_append_3 cJ7_append_3 2 (some (.object "java/lang/AbstractStringBuilder"))) (rmJ7_append_3 mc ms) (x_Pc D N0 gp X h [.ref p0, .int p1]) (x_Qc D N0 (x_Va (qJa X post))) mc ms (x_A N0) := by
  refine x_start (lv := [(0, .ref p0), (1, .int p1)]) (by decide) rfl (Nat.le_of_ble_eq_true rfl) rfl ?_
  intro p e s m below meth c C hR ls hl
  have hS : va_S (x_A N0) s.heap s.heap [] := va_S.rf
  obtain ⟨⟨hx, hb, hml, hown, hts⟩, hr, hlocks, hG, hN⟩ := id C
  unfold wJ7_append_3 at hw
  have hk : 0 + mc ≤ mc := Nat.le_of_eq (Nat.zero_add _)
  have hn : 0 + ms ≤ ms := Nat.le_of_eq (Nat.zero_add _)
  refine lv_aload_n hx hb dJ7_append_3_0 rfl (lv_at hl 0 rfl) ?_
  refine lv_aload_n hx hb dJ7_append_3_1 rfl (lv_at hl 0 rfl) ?_
  obtain ⟨y52, hf51, hw⟩ := hw
  refine x_getH (ci := 8) (Cn := RJ8) (T := TJ8) (N := 4) (k := 3) C hR hf51 rfl in_J8 (by decide) q285 (fun _ h9 => h9) dJ7_append_3_2 ?_
  refine lv_iconst (v := 1) hx hb dJ7_append_3_5 (by decide) ?_
  refine lv_iadd hx hb dJ7_append_3_6 ?_
  obtain ⟨t58, fs59, he60, hw⟩ := hw
  obtain ⟨ca53, cb54, mc55, ms56, hca53, hcb54, hw⟩ := hw
  refine x_callv (x_runU (n := 1) (As := [.int (y52 + 1)]) C hR hS (kJ7_ensureCapacityInternal l D N0 gp _ p0 (y52 + 1) h ca53 cb54 _ hw) (x_cwP C 1 8 rfl q707 q1582 q708 q709 q97 q710 rfl rfl (by decide +kernel) ⟨Nat.le_of_ble_eq_true rfl, Nat.le_of_ble_eq_true rfl⟩) (x_recv C (hR.rdH he60) rfl) rfl hl.1 rfl (Nat.le_of_ble_eq_true rfl) dJ7_append_3_7 ⟨x_bud hk hca53, x_bud hn hcb54⟩) hS (fun X1 h57 H locs hq hR hS => ?_)
  clear hw
  obtain ⟨e1, hw⟩ := hq
  rw [e1] at hR
  have hk := x_budN hk hca53
  have hn := x_budN hn hcb54
  refine lv_aload_n hx hb dJ7_append_3_10 rfl (lv_at hl 0 rfl) ?_
  obtain ⟨t62, fs63, he64, hw⟩ := hw
  refine x_calli0 (x_runU (n := 0) (As := []) C hR hS (kJ7_isLatin1 l D N0 gp _ p0 h57 _ hw) (va_cwU 0 hts (lw_U q727 q729 q730 q728 q97 q731) rfl rfl rfl rfl (by decide +kernel) ⟨Nat.le_of_ble_eq_true rfl, Nat.le_of_ble_eq_true rfl⟩) (x_recv C (hR.rdH he64) rfl) rfl hl.1 rfl (Nat.le_of_ble_eq_true rfl) dJ7_append_3_11 ⟨x_bud0 hk, x_bud0 hn⟩) hS (fun r61 X1 h1 H locs hq hR hS => ?_)
  clear hw
  obtain ⟨e1, e2, hw⟩ := hq
  rw [e1, e2] at hR
  refine lv_if_eq (tgt := 45) hx hb dJ7_append_3_14 (by decide) (fun c65 => ?_) (fun c65 => ?_)
  · replace hw := hw.1 c65
    exact kJ7_append_3_b45 C hR hS hk hn (lv_sub hl [0, 1] rfl) hw
  · replace hw := hw.2 c65
    refine lv_iload_n hx hb dJ7_append_3_17 rfl (lv_at hl 1 rfl) ?_
    refine x_calli0 (x_runS (n := 1) (As := [.int p1]) C hR hS (kJ17_canEncode l D N0 gp _ _ p1 _ hw) (lw_S q936 q937 q109 q938) rfl rfl (by decide +kernel) ⟨Nat.le_of_ble_eq_true rfl, Nat.le_of_ble_eq_true rfl⟩ rfl hl.1 rfl (Nat.le_of_ble_eq_true rfl) dJ7_append_3_18 ⟨x_bud0 hk, x_bud0 hn⟩) hS (fun r66 X1 h1 H locs hq hR hS => ?_)
    clear hw
    obtain ⟨e1, e2, hw⟩ := hq
    rw [e1, e2] at hR
    refine lv_if_eq (tgt := 45) hx hb dJ7_append_3_21 (by decide) (fun c67 => ?_) (fun c67 => ?_)
    · replace hw := hw.1 c67
      exact kJ7_append_3_b45 C hR hS hk hn (lv_sub hl [0, 1] rfl) hw
    · replace hw := hw.2 c67
      refine lv_aload_n hx hb dJ7_append_3_24 rfl (lv_at hl 0 rfl) ?_
      obtain ⟨v69, hf68, hw⟩ := hw
      refine x_getH (ci := 8) (Cn := RJ8) (T := TJ8) (N := 4) (k := 0) C hR hf68 rfl in_J8 (by decide) q281 (fun _ h9 => h9) dJ7_append_3_25 ?_
      refine lv_aload_n hx hb dJ7_append_3_28 rfl (lv_at hl 0 rfl) ?_
      refine lv_dup hx hb dJ7_append_3_29 rfl ?_
      obtain ⟨y71, hf70, hw⟩ := hw
      refine x_getH (ci := 8) (Cn := RJ8) (T := TJ8) (N := 4) (k := 3) C hR hf70 rfl in_J8 (by decide) q285 (fun _ h9 => h9) dJ7_append_3_30 ?_
      refine lv_dup_x1 hx hb dJ7_append_3_33 rfl rfl ?_
      refine lv_iconst (v := 1) hx hb dJ7_append_3_34 (by decide) ?_
      refine lv_iadd hx hb dJ7_append_3_35 ?_
      obtain ⟨t72, fs73, he74, ht75, hl76, hw⟩ := hw
      refine x_putH (ci := 8) (Cn := RJ8) (T := TJ8) (N := 4) (v := .int (y71 + 1)) C hR hS he74 ht75 rfl in_J8 tyJ8_ok nmJ8 3 (by decide) q285 (fun _ h9 => h9) rfl rfl rfl hl76 dJ7_append_3_36 (fun H locs hR hS => ?_)
      obtain ⟨h77, eh77⟩ : ∃ z, z = x_hs h57 p0 t72 (.inr (8, fs73.set 3 (.int (y71 + 1)))) := ⟨_, rfl⟩
      rw [← eh77] at hR
      replace hw := hw h77 eh77
      refine lv_iload_n hx hb dJ7_append_3_39 rfl (lv_at hl 1 rfl) ?_
      refine lv_i2b hx hb dJ7_append_3_40 rfl ?_
      obtain ⟨a78, ea78, hw⟩ := hw
      rw [ea78]
      obtain ⟨t79, n80, f81, he82, ht83, b84, hw⟩ := hw
      refine x_bastH C hR hS he82 ht83 b84 dJ7_append_3_41 (fun H locs hR hS => ?_)
      obtain ⟨h85, eh85⟩ : ∃ z, z = x_hs h77 a78 t79 (.inl (.byte, (n80, .inl (upd f81 y71.toNatClampNeg (vp_nar .byte p1.toInt8.toInt32))))) := ⟨_, rfl⟩
      rw [← eh85] at hR
      replace hw := hw h85 eh85
      refine lv_goto (tgt := 75) hx hb dJ7_append_3_42 (by decide) ?_
      refine lv_aload_n hx hb dJ7_append_3_75 rfl (lv_at hl 0 rfl) ?_
      exact x_enda (v := (some p0)) C (Or.inl ⟨_, rfl⟩) hR hS ⟨_, rfl, ⟨rfl, hw⟩⟩ (x_le hk) (x_le hn) dJ7_append_3_76
/-- java/lang/StringBuilder.append(C)Ljava/lang/StringBuilder; -/
abbrev rmJ8_append_3 (mc0 ms0 : Nat) : Room := { frames := 5, cells := mc0, slots := ms0, locals := 131 }
section
variable {p : Program} {l : Launch} {e : Env} {s : State} {m : MethodId} {args : Array Value} {below : List Frame} {meth : Method} {c : Code} {D : va_G} {N0 : Nat} {gp : Nat → Nat} {X : x_X} {mc0 ms0 : Nat}
end
def wJ8_append_3 (post : Option Nat → x_H → Prop) (p0 : Nat) (p1 : Int32) (h : x_H) (mc : Nat) (ms : Nat) : Prop :=
  ∃ (t16 : Nat) (fs17 : List Value), h p0 = some (t16, .inr (8, fs17)) ∧ ∃ ca11 cb12 mc13 ms14 : Nat, ca11 + mc13 ≤ mc ∧ cb12 + ms14 ≤ ms ∧ wJ7_append_3 (fun r10 h15 => post (some p0) h15) p0 p1 h ca11 cb12
theorem kJ8_append_3 (l : Launch) (D : va_G) (N0 : Nat) (gp : Nat → Nat) (X : x_X) (p0 : Nat) (p1 : Int32) (h : x_H) (mc : Nat) (ms : Nat) (post : Option Nat → x_H → Prop) (hw : wJ8_append_3 post p0 p1 h mc ms) : Met l yJ8_append_3 (ws_ yJ8_append_3 cJ8_append_3 2 (some (.object "java/lang/StringBuilder"))) (rmJ8_append_3 mc ms) (x_Pc D N0 gp X h [.ref p0, .int p1]) (x_Qc D N0 (x_Va (qJa X post))) mc ms (x_A N0) := by
  refine x_start (lv := [(0, .ref p0), (1, .int p1)]) (by decide) rfl (Nat.le_of_ble_eq_true rfl) rfl ?_
  intro p e s m below meth c C hR ls hl
  have hS : va_S (x_A N0) s.heap s.heap [] := va_S.rf
  obtain ⟨⟨hx, hb, hml, hown, hts⟩, hr, hlocks, hG, hN⟩ := id C
  unfold wJ8_append_3 at hw
  have hk : 0 + mc ≤ mc := Nat.le_of_eq (Nat.zero_add _)
  have hn : 0 + ms ≤ ms := Nat.le_of_eq (Nat.zero_add _)
  refine lv_aload_n hx hb dJ8_append_3_0 rfl (lv_at hl 0 rfl) ?_
  refine lv_iload_n hx hb dJ8_append_3_1 rfl (lv_at hl 1 rfl) ?_
  obtain ⟨t16, fs17, he18, hw⟩ := hw
  obtain ⟨ca11, cb12, mc13, ms14, hca11, hcb12, hw⟩ := hw
  refine x_calla (x_runSU (n := 1) (As := [.int p1]) (b := p0) C hR hS (kJ7_append_3 l D N0 gp _ p0 p1 h ca11 cb12 _ hw) (lw_SU q933 q1590 q294 q934 q97 q935) rfl rfl (by decide +kernel) ⟨Nat.le_of_ble_eq_true rfl, Nat.le_of_ble_eq_true rfl⟩ (hR.rdH he18) rfl rfl hl.1 rfl (Nat.le_of_ble_eq_true rfl) dJ8_append_3_2 ⟨x_bud hk hca11, x_bud hn hcb12⟩) hS (fun r10 X1 h15 H locs hq hR hS => ?_)
  clear hw
  obtain ⟨e1, hw⟩ := hq
  rw [e1] at hR
  have hk := x_budN hk hca11
  have hn := x_budN hn hcb12
  refine lv_pop hx hb dJ8_append_3_5 (x_cat1 _) ?_
  refine lv_aload_n hx hb dJ8_append_3_6 rfl (lv_at hl 0 rfl) ?_
  exact x_enda (v := (some p0)) C (Or.inl ⟨_, rfl⟩) hR hS ⟨_, rfl, ⟨rfl, hw⟩⟩ (x_le hk) (x_le hn) dJ8_append_3_7
/-- java/lang/AbstractStringBuilder.getValue()[B -/
abbrev rmJ7_getValue : Room := { frames := 0, cells := 0, slots := 0, locals := 0 }
section
variable {p : Program} {l : Launch} {e : Env} {s : State} {m : MethodId} {args : Array Value} {below : List Frame} {meth : Method} {c : Code} {D : va_G} {N0 : Nat} {gp : Nat → Nat} {X : x_X}
end
def wJ7_getValue (post : Option Nat → Prop) (p0 : Nat) (h : x_H) : Prop :=
  ∃ v4 : Option Nat, x_f h p0 8 0 (va_rf v4) ∧ post v4 
theorem kJ7_getValue (l : Launch) (D : va_G) (N0 : Nat) (gp : Nat → Nat) (X : x_X) (p0 : Nat) (h : x_H) (post : Option Nat → Prop) (hw : wJ7_getValue post p0 h ) : Met l yJ7_getValue (ws_ yJ7_getValue cJ7_getValue 1 (some (.array .byte))) rmJ7_getValue (x_Pc D N0 gp X h [.ref p0]) (x_Qc D N0 (x_Va (qPa X h post))) 0 0 (x_A N0) := by
  refine x_start (lv := [(0, .ref p0)]) (by decide) rfl (Nat.le_of_ble_eq_true rfl) rfl ?_
  intro p e s m below meth c C hR ls hl
  have hS : va_S (x_A N0) s.heap s.heap [] := va_S.rf
  obtain ⟨⟨hx, hb, hml, hown, hts⟩, hr, hlocks, hG, hN⟩ := id C
  unfold wJ7_getValue at hw
  refine lv_aload_n hx hb dJ7_getValue_0 rfl (lv_at hl 0 rfl) ?_
  obtain ⟨v4, hf3, hw⟩ := hw
  refine x_getH (ci := 8) (Cn := RJ8) (T := TJ8) (N := 4) (k := 0) C hR hf3 rfl in_J8 (by decide) q281 (fun _ h9 => h9) dJ7_getValue_1 ?_
  exact x_enda (v := v4) C (Or.inr ⟨_, rfl⟩) hR hS ⟨_, rfl, ⟨rfl, rfl, hw⟩⟩ (Nat.le_refl _) (Nat.le_refl _) dJ7_getValue_4
/-- java/lang/AbstractStringBuilder.length()I -/
abbrev rmJ7_length : Room := { frames := 0, cells := 0, slots := 0, locals := 0 }
section
variable {p : Program} {l : Launch} {e : Env} {s : State} {m : MethodId} {args : Array Value} {below : List Frame} {meth : Method} {c : Code} {D : va_G} {N0 : Nat} {gp : Nat → Nat} {X : x_X}
end
def wJ7_length (post : Int32 → Prop) (p0 : Nat) (h : x_H) : Prop :=
  ∃ y4 : Int32, x_f h p0 8 3 (.int y4) ∧ post y4 
theorem kJ7_length (l : Launch) (D : va_G) (N0 : Nat) (gp : Nat → Nat) (X : x_X) (p0 : Nat) (h : x_H) (post : Int32 → Prop) (hw : wJ7_length post p0 h ) : Met l yJ7_length (ws_ yJ7_length cJ7_length 1 (some .int)) rmJ7_length (x_Pc D N0 gp X h [.ref p0]) (x_Qc D N0 (x_Vi (qPi X h post))) 0 0 (x_A N0) := by
  refine x_start (lv := [(0, .ref p0)]) (by decide) rfl (Nat.le_of_ble_eq_true rfl) rfl ?_
  intro p e s m below meth c C hR ls hl
  have hS : va_S (x_A N0) s.heap s.heap [] := va_S.rf
  obtain ⟨⟨hx, hb, hml, hown, hts⟩, hr, hlocks, hG, hN⟩ := id C
  unfold wJ7_length at hw
  refine lv_aload_n hx hb dJ7_length_0 rfl (lv_at hl 0 rfl) ?_
  obtain ⟨y4, hf3, hw⟩ := hw
  refine x_getH (ci := 8) (Cn := RJ8) (T := TJ8) (N := 4) (k := 3) C hR hf3 rfl in_J8 (by decide) q285 (fun _ h9 => h9) dJ7_length_1 ?_
  exact x_endi C hR hS ⟨_, rfl, ⟨rfl, rfl, hw⟩⟩ (Nat.le_refl _) (Nat.le_refl _) dJ7_length_4
/-- java/lang/StringBuilder.length()I -/
abbrev rmJ8_length : Room := { frames := 1, cells := 0, slots := 0, locals := 20 }
section
variable {p : Program} {l : Launch} {e : Env} {s : State} {m : MethodId} {args : Array Value} {below : List Frame} {meth : Method} {c : Code} {D : va_G} {N0 : Nat} {gp : Nat → Nat} {X : x_X}
end
def wJ8_length (post : Int32 → Prop) (p0 : Nat) (h : x_H) : Prop :=
  ∃ (t6 : Nat) (fs7 : List Value), h p0 = some (t6, .inr (8, fs7)) ∧ wJ7_length (fun r5 => post r5 ) p0 h
theorem kJ8_length (l : Launch) (D : va_G) (N0 : Nat) (gp : Nat → Nat) (X : x_X) (p0 : Nat) (h : x_H) (post : Int32 → Prop) (hw : wJ8_length post p0 h ) : Met l yJ8_length (ws_ yJ8_length cJ8_length 1 (some .int)) rmJ8_length (x_Pc D N0 gp X h [.ref p0]) (x_Qc D N0 (x_Vi (qPi X h post))) 0 0 (x_A N0) := by
  refine x_start (lv := [(0, .ref p0)]) (by decide) rfl (Nat.le_of_ble_eq_true rfl) rfl ?_
  intro p e s m below meth c C hR ls hl
  have hS : va_S (x_A N0) s.heap s.heap [] := va_S.rf
  obtain ⟨⟨hx, hb, hml, hown, hts⟩, hr, hlocks, hG, hN⟩ := id C
  unfold wJ8_length at hw
  refine lv_aload_n hx hb dJ8_length_0 rfl (lv_at hl 0 rfl) ?_
  obtain ⟨t6, fs7, he8, hw⟩ := hw
  refine x_calli0 (x_runSU (n := 0) (As := []) (b := p0) C hR hS (kJ7_length l D N0 gp _ p0 h _ hw) (lw_SU q875 q871 q294 q870 q97 q876) rfl rfl (by decide +kernel) ⟨Nat.le_of_ble_eq_true rfl, Nat.le_of_ble_eq_true rfl⟩ (hR.rdH he8) rfl rfl hl.1 rfl (Nat.le_of_ble_eq_true rfl) dJ8_length_1 ⟨Nat.le_refl _, Nat.le_refl _⟩) hS (fun r5 X1 h1 H locs hq hR hS => ?_)
  clear hw
  obtain ⟨e1, e2, hw⟩ := hq
  rw [e1, e2] at hR
  exact x_endi C hR hS ⟨_, rfl, ⟨rfl, rfl, hw⟩⟩ (Nat.le_refl _) (Nat.le_refl _) dJ8_length_4
/-- java/util/Arrays.checkLength(II)V -/
abbrev rmJ6_checkLength : Room := { frames := 0, cells := 0, slots := 0, locals := 0 }
section
variable {p : Program} {l : Launch} {e : Env} {s : State} {m : MethodId} {args : Array Value} {below : List Frame} {meth : Method} {c : Code} {D : va_G} {N0 : Nat} {gp : Nat → Nat} {X : x_X} {h : x_H}
end
def wJ6_checkLength (post : Prop) (p0 : Int32) (p1 : Int32) : Prop :=
  (p0 ≤ p1 → post) ∧ (¬ p0 ≤ p1 → False)
theorem kJ6_checkLength (l : Launch) (D : va_G) (N0 : Nat) (gp : Nat → Nat) (X : x_X) (h : x_H) (p0 : Int32) (p1 : Int32) (post : Prop) (hw : wJ6_checkLength post p0 p1 ) : Met l yJ6_checkLength (ws_ yJ6_checkLength cJ6_checkLength 2 none) rmJ6_checkLength (x_Pc D N0 gp X h [.int p0, .int p1]) (x_Qc D N0 (x_Vv (qPv X h post))) 0 0 (x_A N0) := by
  refine x_start (lv := [(0, .int p0), (1, .int p1)]) (by decide) rfl (Nat.le_of_ble_eq_true rfl) rfl ?_
  intro p e s m below meth c C hR ls hl
  have hS : va_S (x_A N0) s.heap s.heap [] := va_S.rf
  obtain ⟨⟨hx, hb, hml, hown, hts⟩, hr, hlocks, hG, hN⟩ := id C
  unfold wJ6_checkLength at hw
  refine lv_iload_n hx hb dJ6_checkLength_0 rfl (lv_at hl 1 rfl) ?_
  refine lv_iload_n hx hb dJ6_checkLength_1 rfl (lv_at hl 0 rfl) ?_
  refine lv_icmp_ge (tgt := 37) hx hb dJ6_checkLength_2 (by decide) (fun c2 => ?_) (fun c2 => ?_)
  · replace hw := hw.1 c2
    exact x_endv C hR hS ⟨rfl, ⟨rfl, rfl, hw⟩⟩ (Nat.le_refl _) (Nat.le_refl _) dJ6_checkLength_37
  · replace hw := hw.2 c2
    exact False.elim hw
/-- java/util/Arrays.copyOfRangeByte([BII)[B -/
abbrev rmJ6_copyOfRangeByte (mc0 ms0 : Nat) : Room := { frames := 1, cells := mc0, slots := ms0, locals := 40 }
section
variable {p : Program} {l : Launch} {e : Env} {s : State} {m : MethodId} {args : Array Value} {below : List Frame} {meth : Method} {c : Code} {D : va_G} {N0 : Nat} {gp : Nat → Nat} {X : x_X} {mc0 ms0 : Nat}
end
def wJ6_copyOfRangeByte (post : Option Nat → x_H → Prop) (p0 : Nat) (p1 : Int32) (p2 : Int32) (h : x_H) (mc : Nat) (ms : Nat) : Prop :=
  wJ6_checkLength (∃ mc31 ms32 : Nat, 1 + mc31 ≤ mc ∧ (p2 - p1).toNatClampNeg + ms32 ≤ ms ∧ ¬ (p2 - p1) < 0 ∧ (p2 - p1).toNatClampNeg ≤ 536870912 ∧ ∀ q35 : Nat, h q35 = none → ∃ t36 : Nat, t36 ≠ 1 ∧ ∀ h39 : x_H, h39 = x_hs h q35 t36 (.inl (.byte, ((p2 - p1).toNatClampNeg, .inl (fun _ => 0)))) → ∃ (t40 : Nat) (ty41 : FieldType) (x42 : vp_A), h39 p0 = some (t40, .inl (ty41, x42)) ∧ ∃ (t46 n48 : Nat) (f44 : Nat → Int32) (t47 n49 : Nat) (f45 : Nat → Int32), h39 p0 = some (t46, .inl (.byte, (n48, .inl f44))) ∧ t46 ≠ 1 ∧ h39 q35 = some (t47, .inl (.byte, (n49, .inl f45))) ∧ t47 ≠ 1 ∧ ¬ p1 < 0 ∧ ¬ (0 : Int32) < 0 ∧ ¬ (if (p2 - p1) < ((nI x42.1) - p1) then (p2 - p1) else ((nI x42.1) - p1)) < 0 ∧ p1.toNatClampNeg + (if (p2 - p1) < ((nI x42.1) - p1) then (p2 - p1) else ((nI x42.1) - p1)).toNatClampNeg ≤ n48 ∧ (0 : Int32).toNatClampNeg + (if (p2 - p1) < ((nI x42.1) - p1) then (p2 - p1) else ((nI x42.1) - p1)).toNatClampNeg ≤ n49 ∧ (∀ i : Nat, i < (if (p2 - p1) < ((nI x42.1) - p1) then (p2 - p1) else ((nI x42.1) - p1)).toNatClampNeg → fits .byte (.int (f44 (p1.toNatClampNeg + i))) = true) ∧ ∀ h60 : x_H, h60 = x_hs h39 q35 t47 (.inl (.byte, (n49, .inl (va_cpy f44 f45 p1.toNatClampNeg (0 : Int32).toNatClampNeg (if (p2 - p1) < ((nI x42.1) - p1) then (p2 - p1) else ((nI x42.1) - p1)).toNatClampNeg)))) → post (some q35) h60) p1 p2
theorem kJ6_copyOfRangeByte (l : Launch) (D : va_G) (N0 : Nat) (gp : Nat → Nat) (X : x_X) (p0 : Nat) (p1 : Int32) (p2 : Int32) (h : x_H) (mc : Nat) (ms : Nat) (post : Option Nat → x_H → Prop) (hw : wJ6_copyOfRangeByte post p0 p1 p2 h mc ms) : Met l yJ6_copyOfRangeByte (ws_ yJ6_copyOfRangeByte cJ6_copyOfRangeByte 5 (some (.array .byte))) (rmJ6_copyOfRangeByte mc ms) (x_Pc D N0 gp X h [.ref p0, .int p1, .int p2]) (x_Qc D N0 (x_Va (qJa X post))) mc ms (x_A N0) := by
  refine x_start (lv := [(0, .ref p0), (1, .int p1), (2, .int p2)]) (by decide) rfl (Nat.le_of_ble_eq_true rfl) rfl ?_
  intro p e s m below meth c C hR ls hl
  have hS : va_S (x_A N0) s.heap s.heap [] := va_S.rf
  obtain ⟨⟨hx, hb, hml, hown, hts⟩, hr, hlocks, hG, hN⟩ := id C
  unfold wJ6_copyOfRangeByte at hw
  have hk : 0 + mc ≤ mc := Nat.le_of_eq (Nat.zero_add _)
  have hn : 0 + ms ≤ ms := Nat.le_of_eq (Nat.zero_add _)
  refine lv_iload_n hx hb dJ6_copyOfRangeByte_0 rfl (lv_at hl 1 rfl) ?_
  refine lv_iload_n hx hb dJ6_copyOfRangeByte_1 rfl (lv_at hl 2 rfl) ?_
  refine x_callv0 (x_runS (n := 2) (As := [.int p1, .int p2]) C hR hS (kJ6_checkLength l D N0 gp _ _ p1 p2 _ hw) (lw_S q884 q885 q94 q886) rfl rfl (by decide +kernel) ⟨Nat.le_of_ble_eq_true rfl, Nat.le_of_ble_eq_true rfl⟩ rfl hl.1 rfl (Nat.le_of_ble_eq_true rfl) dJ6_copyOfRangeByte_2 ⟨x_bud0 hk, x_bud0 hn⟩) hS (fun X1 h1 H locs hq hR hS => ?_)
  clear hw
  obtain ⟨e1, e2, hw⟩ := hq
  rw [e1, e2] at hR
  refine lv_iload_n hx hb dJ6_copyOfRangeByte_5 rfl (lv_at hl 2 rfl) ?_
  refine lv_iload_n hx hb dJ6_copyOfRangeByte_6 rfl (lv_at hl 1 rfl) ?_
  refine lv_isub hx hb dJ6_copyOfRangeByte_7 ?_
  refine lv_istore_n (lv' := [(3, .int (p2 - p1)), (0, .ref p0), (1, .int p1), (2, .int p2)]) hx hb dJ6_copyOfRangeByte_8 rfl hl (by decide) rfl (fun ls hl => ?_)
  refine lv_iload_n hx hb dJ6_copyOfRangeByte_9 rfl (lv_at hl 0 rfl) ?_
  obtain ⟨mc31, ms32, hmc31, hms32, hw⟩ := hw
  obtain ⟨g33, g34, hw⟩ := hw
  refine x_newB C hR hS q175 g33 g34 (x_bud hk hmc31) (x_bud hn hms32) dJ6_copyOfRangeByte_10 (fun q35 H hq37 hRn hS => ?_)
  obtain ⟨t36, ht38, hw⟩ := hw q35 hq37
  have hR := hRn t36 ht38
  obtain ⟨h39, eh39⟩ : ∃ z, z = x_hs h q35 t36 (.inl (.byte, ((p2 - p1).toNatClampNeg, .inl (fun _ => 0)))) := ⟨_, rfl⟩
  rw [← eh39] at hR
  replace hw := hw h39 eh39
  have hk := x_budN hk hmc31
  have hn := x_budN hn hms32
  refine lv_astore (lv' := [(4, .ref q35), (3, .int (p2 - p1)), (0, .ref p0), (1, .int p1), (2, .int p2)]) hx hb dJ6_copyOfRangeByte_12 hl (by decide) rfl (fun ls hl => ?_)
  refine lv_aload_n hx hb dJ6_copyOfRangeByte_14 rfl (lv_at hl 2 rfl) ?_
  refine lv_iload_n hx hb dJ6_copyOfRangeByte_15 rfl (lv_at hl 3 rfl) ?_
  refine lv_aload hx hb dJ6_copyOfRangeByte_16 (lv_at hl 0 rfl) ?_
  refine lv_iconst (v := 0) hx hb dJ6_copyOfRangeByte_18 (by decide) ?_
  refine lv_aload_n hx hb dJ6_copyOfRangeByte_19 rfl (lv_at hl 2 rfl) ?_
  obtain ⟨t40, ty41, x42, he43, hw⟩ := hw
  refine x_alen C (hR.rdH he43) dJ6_copyOfRangeByte_20 ?_
  refine lv_iload_n hx hb dJ6_copyOfRangeByte_21 rfl (lv_at hl 3 rfl) ?_
  refine lv_isub hx hb dJ6_copyOfRangeByte_22 ?_
  refine lv_iload_n hx hb dJ6_copyOfRangeByte_23 rfl (lv_at hl 1 rfl) ?_
  refine va_mmin hx hb (hml.trans hl.1.symm) hown (hts _ q228) (hts _ q229) (hts _ q93) (hts _ q230) (Nat.le_of_ble_eq_true rfl) (Nat.le_of_ble_eq_true rfl) (x_le hk) (x_le hn) dJ6_copyOfRangeByte_24 ?_
  obtain ⟨t46, n48, f44, t47, n49, f45, he50, ht52, he51, ht53, g54, g55, g56, g57, g58, g59, hw⟩ := hw
  refine x_copyB C hR hS q231 q233 q232 q95 he50 ht52 he51 ht53 g54 g55 g56 g57 g58 g59 hl.1 (Nat.le_of_ble_eq_true rfl) (Nat.le_of_ble_eq_true rfl) dJ6_copyOfRangeByte_27 (fun H locs hR hS => ?_)
  obtain ⟨h60, eh60⟩ : ∃ z, z = x_hs h39 q35 t47 (.inl (.byte, (n49, .inl (va_cpy f44 f45 p1.toNatClampNeg (0 : Int32).toNatClampNeg (if (p2 - p1) < ((nI x42.1) - p1) then (p2 - p1) else ((nI x42.1) - p1)).toNatClampNeg)))) := ⟨_, rfl⟩
  rw [← eh60] at hR
  replace hw := hw h60 eh60
  refine lv_aload hx hb dJ6_copyOfRangeByte_30 (lv_at hl 0 rfl) ?_
  exact x_enda (v := (some q35)) C (Or.inr ⟨_, rfl⟩) hR hS ⟨_, rfl, ⟨rfl, hw⟩⟩ (x_le hk) (x_le hn) dJ6_copyOfRangeByte_32
/-- java/util/Arrays.copyOfRange([BII)[B -/
abbrev rmJ6_copyOfRange (mc0 ms0 : Nat) : Room := { frames := 2, cells := mc0, slots := ms0, locals := 64 }
section
variable {p : Program} {l : Launch} {e : Env} {s : State} {m : MethodId} {args : Array Value} {below : List Frame} {meth : Method} {c : Code} {D : va_G} {N0 : Nat} {gp : Nat → Nat} {X : x_X} {mc0 ms0 : Nat}
def wJ6_copyOfRange_b10 (post : Option Nat → x_H → Prop) (p0 : Nat) (p1 : Int32) (p2 : Int32) (h : x_H) (mc : Nat) (ms : Nat) : Prop :=
  ∃ ca54 cb55 mc56 ms57 : Nat, ca54 + mc56 ≤ mc ∧ cb55 + ms57 ≤ ms ∧ wJ6_copyOfRangeByte (fun r53 h58 => post r53 h58) p0 p1 p2 h ca54 cb55
theorem kJ6_copyOfRange_b10 {post : Option Nat → x_H → Prop} {p0 : Nat} {p1 : Int32} {p2 : Int32} (C : x_C p s m args meth c cJ6_copyOfRange 3 (some (.array .byte)) RJ6 D N0 gp) {h : x_H} {mc : Nat} {ms : Nat} {k n : Nat} {H : Heap} {locs : List Loc} {ls : Array Slot} (hR : x_R D s N0 X h H) (hS : va_S (x_A N0) s.heap H locs) (hk : k + mc ≤ mc0) (hn : n + ms ≤ ms0) (hl : lv_has ls 3 [(0, .ref p0), (1, .int p1), (2, .int p2)]) (hw : wJ6_copyOfRange_b10 post p0 p1 p2 h mc ms) : W p l e (rmJ6_copyOfRange mc0 ms0) s m args below meth c H locs k n (MQ below (x_Qc D N0 (x_Va (qJa X post))) args s mc0 ms0 (x_A N0)) (F0 m 10 ls []) := by
  obtain ⟨⟨hx, hb, hml, hown, hts⟩, hr, hlocks, hG, hN⟩ := id C
  unfold wJ6_copyOfRange_b10 at hw
  refine lv_aload_n hx hb dJ6_copyOfRange_10 rfl (lv_at hl 0 rfl) ?_
  refine lv_iload_n hx hb dJ6_copyOfRange_11 rfl (lv_at hl 1 rfl) ?_
  refine lv_iload_n hx hb dJ6_copyOfRange_12 rfl (lv_at hl 2 rfl) ?_
  obtain ⟨ca54, cb55, mc56, ms57, hca54, hcb55, hw⟩ := hw
  refine x_calla (x_runS (n := 3) (As := [.ref p0, .int p1, .int p2]) C hR hS (kJ6_copyOfRangeByte l D N0 gp _ p0 p1 p2 h ca54 cb55 _ hw) (lw_S q881 q882 q94 q883) rfl rfl (by decide +kernel) ⟨Nat.le_of_ble_eq_true rfl, Nat.le_of_ble_eq_true rfl⟩ rfl hl.1 rfl (Nat.le_of_ble_eq_true rfl) dJ6_copyOfRange_13 ⟨x_bud hk hca54, x_bud hn hcb55⟩) hS (fun r53 X1 h58 H locs hq hR hS => ?_)
  clear hw
  obtain ⟨e1, hw⟩ := hq
  rw [e1] at hR
  have hk := x_budN hk hca54
  have hn := x_budN hn hcb55
  exact x_enda (v := r53) C (Or.inr ⟨_, rfl⟩) hR hS ⟨_, rfl, ⟨rfl, hw⟩⟩ (x_le hk) (x_le hn) dJ6_copyOfRange_16
end
def wJ6_copyOfRange (post : Option Nat → x_H → Prop) (p0 : Nat) (p1 : Int32) (p2 : Int32) (h : x_H) (mc : Nat) (ms : Nat) : Prop :=
  (p1 = 0 → ∃ (t31 : Nat) (ty32 : FieldType) (x33 : vp_A), h p0 = some (t31, .inl (ty32, x33)) ∧ (p2 = (nI x33.1) → ∃ (t36 n37 : Nat) (f38 : Nat → Int32), h p0 = some (t36, .inl (.byte, (n37, .inl f38))) ∧ t36 ≠ 1 ∧ (∀ i : Nat, i < n37 → fits .byte (.int (f38 i)) = true) ∧ ∃ mc42 ms43 : Nat, 1 + mc42 ≤ mc ∧ n37 + ms43 ≤ ms ∧ ∀ q44 : Nat, h q44 = none → ∃ t45 : Nat, t45 ≠ 1 ∧ ∀ h48 : x_H, h48 = x_hs h q44 t45 (.inl (.byte, (n37, .inl f38))) → ∃ (t49 : Nat) (x50 : vp_A), h48 q44 = some (t49, .inl (.byte, x50)) ∧ t49 ≠ 1 ∧ post (some q44) h48) ∧ (¬ p2 = (nI x33.1) → wJ6_copyOfRange_b10 post p0 p1 p2 h mc ms)) ∧ (¬ p1 = 0 → wJ6_copyOfRange_b10 post p0 p1 p2 h mc ms)
theorem kJ6_copyOfRange (l : Launch) (D : va_G) (N0 : Nat) (gp : Nat → Nat) (X : x_X) (p0 : Nat) (p1 : Int32) (p2 : Int32) (h : x_H) (mc : Nat) (ms : Nat) (post : Option Nat → x_H → Prop) (hw : wJ6_copyOfRange post p0 p1 p2 h mc ms) : Met l yJ6_copyOfRange (ws_ yJ6_copyOfRange cJ6_copyOfRange 3 (some (.array .byte))) (rmJ6_copyOfRange mc ms) (x_Pc D N0 gp X h [.ref p0, .int p1, .int p2]) (x_Qc D N0 (x_Va (qJa X post))) mc ms (x_A N0) := by
  refine x_start (lv := [(0, .ref p0), (1, .int p1), (2, .int p2)]) (by decide) rfl (Nat.le_of_ble_eq_true rfl) rfl ?_
  intro p e s m below meth c C hR ls hl
  have hS : va_S (x_A N0) s.heap s.heap [] := va_S.rf
  obtain ⟨⟨hx, hb, hml, hown, hts⟩, hr, hlocks, hG, hN⟩ := id C
  unfold wJ6_copyOfRange at hw
  have hk : 0 + mc ≤ mc := Nat.le_of_eq (Nat.zero_add _)
  have hn : 0 + ms ≤ ms := Nat.le_of_eq (Nat.zero_add _)
  refine lv_iload_n hx hb dJ6_copyOfRange_0 rfl (lv_at hl 1 rfl) ?_
  refine lv_if_ne (tgt := 10) hx hb dJ6_copyOfRange_1 (by decide) (fun c30 => ?_) (fun c30 => ?_)
  · replace hw := hw.2 c30
    exact kJ6_copyOfRange_b10 C hR hS hk hn (lv_sub hl [0, 1, 2] rfl) hw
  · replace hw := hw.1 c30
    refine lv_iload_n hx hb dJ6_copyOfRange_4 rfl (lv_at hl 2 rfl) ?_
    refine lv_aload_n hx hb dJ6_copyOfRange_5 rfl (lv_at hl 0 rfl) ?_
    obtain ⟨t31, ty32, x33, he34, hw⟩ := hw
    refine x_alen C (hR.rdH he34) dJ6_copyOfRange_6 ?_
    refine lv_icmp_eq (tgt := 17) hx hb dJ6_copyOfRange_7 (by decide) (fun c35 => ?_) (fun c35 => ?_)
    · replace hw := hw.1 c35
      refine lv_aload_n hx hb dJ6_copyOfRange_17 rfl (lv_at hl 0 rfl) ?_
      obtain ⟨t36, n37, f38, he39, ht40, hf41, hw⟩ := hw
      obtain ⟨mc42, ms43, hmc42, hms43, hw⟩ := hw
      refine x_cloneB C hR hS q720 q721 q722 q723 q724 q725 he39 ht40 hf41 hl.1 (Nat.le_of_ble_eq_true rfl) (Nat.le_of_ble_eq_true rfl) (x_bud hk hmc42) (x_bud hn hms43) dJ6_copyOfRange_18 (fun q44 H hq46 hRn hS => ?_)
      obtain ⟨t45, ht47, hw⟩ := hw q44 hq46
      have hR := hRn t45 ht47
      obtain ⟨h48, eh48⟩ : ∃ z, z = x_hs h q44 t45 (.inl (.byte, (n37, .inl f38))) := ⟨_, rfl⟩
      rw [← eh48] at hR
      replace hw := hw h48 eh48
      have hk := x_budN hk hmc42
      have hn := x_budN hn hms43
      obtain ⟨t49, x50, he51, ht52, hw⟩ := hw
      refine x_castB C hR he51 ht52 q726 dJ6_copyOfRange_21 ?_
      exact x_enda (v := (some q44)) C (Or.inr ⟨_, rfl⟩) hR hS ⟨_, rfl, ⟨rfl, hw⟩⟩ (x_le hk) (x_le hn) dJ6_copyOfRange_24
    · replace hw := hw.2 c35
      exact kJ6_copyOfRange_b10 C hR hS hk hn (lv_sub hl [0, 1, 2] rfl) hw
/-- java/lang/String.<init>(Ljava/lang/AbstractStringBuilder;Ljava/lang/Void;)V -/
abbrev rmJ9_init_2 (mc0 ms0 : Nat) : Room := { frames := 3, cells := mc0, slots := ms0, locals := 86 }
section
variable {p : Program} {l : Launch} {e : Env} {s : State} {m : MethodId} {args : Array Value} {below : List Frame} {meth : Method} {c : Code} {D : va_G} {N0 : Nat} {gp : Nat → Nat} {X : x_X} {mc0 ms0 : Nat}
def wJ9_init_2_b97 (post : x_H → Prop) (p0 : Nat) (p1 : Nat) (p2 : Option Nat) (h : x_H) (mc : Nat) (ms : Nat) : Prop :=
  post h
theorem kJ9_init_2_b97 {post : x_H → Prop} {p0 : Nat} {p1 : Nat} {p2 : Option Nat} (C : x_C p s m args meth c cJ9_init_2 5 none RJ9 D N0 gp) (hin : meth.name = "<init>") {h : x_H} {mc : Nat} {ms : Nat} {k n : Nat} {H : Heap} {locs : List Loc} {ls : Array Slot} (hR : x_R D s N0 X h H) (hS : va_S (x_A N0) s.heap H locs) (hk : k + mc ≤ mc0) (hn : n + ms ≤ ms0) (hl : lv_has ls 5 []) (hw : wJ9_init_2_b97 post p0 p1 p2 h mc ms) : W p l e (rmJ9_init_2 mc0 ms0) s m args below meth c H locs k n (MQ below (x_Qc D N0 (x_Vv (qJv X post))) args s mc0 ms0 (x_A N0)) (F0 m 97 ls []) := by
  obtain ⟨⟨hx, hb, hml, hown, hts⟩, hr, hlocks, hG, hN⟩ := id C
  unfold wJ9_init_2_b97 at hw
  exact x_endv C hR hS ⟨rfl, ⟨rfl, hw⟩⟩ (x_le hk) (x_le hn) dJ9_init_2_97
def wJ9_init_2_b79 (post : x_H → Prop) (p0 : Nat) (p1 : Nat) (p2 : Option Nat) (h : x_H) (mc : Nat) (ms : Nat) (x3 : Option Nat) (x4 : Int32) : Prop :=
  ∃ (t92 : Nat) (fs93 : List Value), h p0 = some (t92, .inr (9, fs93)) ∧ t92 ≠ 1 ∧ 1 < fs93.length ∧ ∀ h97 : x_H, h97 = x_hs h p0 t92 (.inr (9, fs93.set 1 (.int 1))) → ∃ a98 : Nat, x3 = some a98 ∧ ∃ ca100 cb101 mc102 ms103 : Nat, ca100 + mc102 ≤ mc ∧ cb101 + ms103 ≤ ms ∧ wJ6_copyOfRange (fun r99 h104 => ∃ (t105 : Nat) (fs106 : List Value), h104 p0 = some (t105, .inr (9, fs106)) ∧ t105 ≠ 1 ∧ 0 < fs106.length ∧ ∀ h110 : x_H, h110 = x_hs h104 p0 t105 (.inr (9, fs106.set 0 (va_rf r99))) → wJ9_init_2_b97 post p0 p1 p2 h110 mc102 ms103) a98 0 (x4 <<< ((1 : Int32) &&& 31)) h97 ca100 cb101
theorem kJ9_init_2_b79 {post : x_H → Prop} {p0 : Nat} {p1 : Nat} {p2 : Option Nat} (C : x_C p s m args meth c cJ9_init_2 5 none RJ9 D N0 gp) (hin : meth.name = "<init>") {h : x_H} {mc : Nat} {ms : Nat} {x3 : Option Nat} {x4 : Int32} {k n : Nat} {H : Heap} {locs : List Loc} {ls : Array Slot} (hR : x_R D s N0 X h H) (hS : va_S (x_A N0) s.heap H locs) (hk : k + mc ≤ mc0) (hn : n + ms ≤ ms0) (hl : lv_has ls 5 [(0, .ref p0), (3, va_rf x3), (4, .int x4)]) (hw : wJ9_init_2_b79 post p0 p1 p2 h mc ms x3 x4) : W p l e (rmJ9_init_2 mc0 ms0) s m args below meth c H locs k n (MQ below (x_Qc D N0 (x_Vv (qJv X post))) args s mc0 ms0 (x_A N0)) (F0 m 79 ls []) := by
  obtain ⟨⟨hx, hb, hml, hown, hts⟩, hr, hlocks, hG, hN⟩ := id C
  unfold wJ9_init_2_b79 at hw
  refine lv_aload_n hx hb dJ9_init_2_79 rfl (lv_at hl 0 rfl) ?_
  refine lv_iconst (v := 1) hx hb dJ9_init_2_80 (by decide) ?_
  obtain ⟨t92, fs93, he94, ht95, hl96, hw⟩ := hw
  refine x_putHF (ci := 9) (Cn := RJ9) (T := TJ9) (N := 4) (v := .int 1) C hin hR hS he94 ht95 rfl in_J9 tyJ9_ok nmJ9 1 (by decide) q914 (fun _ h9 => h9) rfl rfl rfl rfl hl96 dJ9_init_2_81 (fun H locs hR hS => ?_)
  obtain ⟨h97, eh97⟩ : ∃ z, z = x_hs h p0 t92 (.inr (9, fs93.set 1 (.int 1))) := ⟨_, rfl⟩
  rw [← eh97] at hR
  replace hw := hw h97 eh97
  refine lv_aload_n hx hb dJ9_init_2_84 rfl (lv_at hl 0 rfl) ?_
  refine x_aload_nO hx hb dJ9_init_2_85 rfl (lv_at hl 1 rfl) ?_
  refine lv_iconst (v := 0) hx hb dJ9_init_2_86 (by decide) ?_
  refine lv_iload hx hb dJ9_init_2_87 (lv_at hl 2 rfl) ?_
  refine lv_iconst (v := 1) hx hb dJ9_init_2_89 (by decide) ?_
  refine lv_ishl hx hb dJ9_init_2_90 ?_
  obtain ⟨a98, ea98, hw⟩ := hw
  rw [ea98]
  obtain ⟨ca100, cb101, mc102, ms103, hca100, hcb101, hw⟩ := hw
  refine x_calla (x_runS (n := 3) (As := [.ref a98, .int 0, .int (x4 <<< ((1 : Int32) &&& 31))]) C hR hS (kJ6_copyOfRange l D N0 gp _ a98 0 (x4 <<< ((1 : Int32) &&& 31)) h97 ca100 cb101 _ hw) (lw_S q878 q879 q94 q880) rfl rfl (by decide +kernel) ⟨Nat.le_of_ble_eq_true rfl, Nat.le_of_ble_eq_true rfl⟩ rfl hl.1 rfl (Nat.le_of_ble_eq_true rfl) dJ9_init_2_91 ⟨x_bud hk hca100, x_bud hn hcb101⟩) hS (fun r99 X1 h104 H locs hq hR hS => ?_)
  clear hw
  obtain ⟨e1, hw⟩ := hq
  rw [e1] at hR
  have hk := x_budN hk hca100
  have hn := x_budN hn hcb101
  obtain ⟨t105, fs106, he107, ht108, hl109, hw⟩ := hw
  refine x_putHF (ci := 9) (Cn := RJ9) (T := TJ9) (N := 4) (v := va_rf r99) C hin hR hS he107 ht108 rfl in_J9 tyJ9_ok nmJ9 0 (by decide) q913 (fun _ h9 => h9) rfl rfl (x_narA _ _) (x_fitA _ _) hl109 dJ9_init_2_94 (fun H locs hR hS => ?_)
  obtain ⟨h110, eh110⟩ : ∃ z, z = x_hs h104 p0 t105 (.inr (9, fs106.set 0 (va_rf r99))) := ⟨_, rfl⟩
  rw [← eh110] at hR
  replace hw := hw h110 eh110
  exact kJ9_init_2_b97 C hin hR hS hk hn (lv_sub hl [] rfl) hw
end
def wJ9_init_2 (post : x_H → Prop) (p0 : Nat) (p1 : Nat) (p2 : Option Nat) (h : x_H) (mc : Nat) (ms : Nat) : Prop :=
  ∃ (t57 : Nat) (fs58 : List Value), h p1 = some (t57, .inr (8, fs58)) ∧ wJ7_getValue (fun r56 => ∃ (t61 : Nat) (fs62 : List Value), h p1 = some (t61, .inr (8, fs62)) ∧ wJ8_length (fun r60 => ∃ (t65 : Nat) (fs66 : List Value), h p1 = some (t65, .inr (8, fs66)) ∧ wJ7_isLatin1 (fun r64 => (r64 = 0 → ((1 : Int32) = 0 → wJ9_init_2_b79 post p0 p1 p2 h mc ms r56 r60) ∧ (¬ (1 : Int32) = 0 → ∃ y71 : Int32, x_f h p1 8 2 (.int y71) ∧ (y71 = 0 → wJ9_init_2_b79 post p0 p1 p2 h mc ms r56 r60) ∧ (¬ y71 = 0 → False))) ∧ (¬ r64 = 0 → ∃ (t73 : Nat) (fs74 : List Value), h p0 = some (t73, .inr (9, fs74)) ∧ t73 ≠ 1 ∧ 1 < fs74.length ∧ ∀ h78 : x_H, h78 = x_hs h p0 t73 (.inr (9, fs74.set 1 (.int 0))) → ∃ a79 : Nat, r56 = some a79 ∧ ∃ ca81 cb82 mc83 ms84 : Nat, ca81 + mc83 ≤ mc ∧ cb82 + ms84 ≤ ms ∧ wJ6_copyOfRange (fun r80 h85 => ∃ (t86 : Nat) (fs87 : List Value), h85 p0 = some (t86, .inr (9, fs87)) ∧ t86 ≠ 1 ∧ 0 < fs87.length ∧ ∀ h91 : x_H, h91 = x_hs h85 p0 t86 (.inr (9, fs87.set 0 (va_rf r80))) → wJ9_init_2_b97 post p0 p1 p2 h91 mc83 ms84) a79 0 r60 h78 ca81 cb82)) p1 h) p1 h) p1 h
theorem kJ9_init_2 (l : Launch) (D : va_G) (N0 : Nat) (gp : Nat → Nat) (X : x_X) (p0 : Nat) (p1 : Nat) (p2 : Option Nat) (h : x_H) (mc : Nat) (ms : Nat) (post : x_H → Prop) (hw : wJ9_init_2 post p0 p1 p2 h mc ms) : Met l yJ9_init_2 (ws_ yJ9_init_2 cJ9_init_2 5 none) (rmJ9_init_2 mc ms) (x_Pc D N0 gp X h [.ref p0, .ref p1, va_rf p2]) (x_Qc D N0 (x_Vv (qJv X post))) mc ms (x_A N0) := by
  refine x_startI (lv := [(0, .ref p0), (1, .ref p1), (2, va_rf p2)]) (by decide) rfl (by cases p2 <;> exact Nat.le_of_ble_eq_true rfl) (by cases p2 <;> rfl) ?_
  intro p e s m below meth c C hin hR ls hl
  have hS : va_S (x_A N0) s.heap s.heap [] := va_S.rf
  obtain ⟨⟨hx, hb, hml, hown, hts⟩, hr, hlocks, hG, hN⟩ := id C
  unfold wJ9_init_2 at hw
  have hk : 0 + mc ≤ mc := Nat.le_of_eq (Nat.zero_add _)
  have hn : 0 + ms ≤ ms := Nat.le_of_eq (Nat.zero_add _)
  refine lv_aload_n hx hb dJ9_init_2_0 rfl (lv_at hl 0 rfl) ?_
  refine x_objInit C q863 q121 q122 hl.1 dJ9_init_2_1 (Nat.le_of_ble_eq_true rfl) (Nat.le_of_ble_eq_true rfl) ?_
  refine lv_aload_n hx hb dJ9_init_2_4 rfl (lv_at hl 1 rfl) ?_
  obtain ⟨t57, fs58, he59, hw⟩ := hw
  refine x_calla0 (x_runU (n := 0) (As := []) C hR hS (kJ7_getValue l D N0 gp _ p1 h _ hw) (va_cwU 0 hts (lw_U q864 q866 q867 q865 q97 q868) rfl rfl rfl rfl (by decide +kernel) ⟨Nat.le_of_ble_eq_true rfl, Nat.le_of_ble_eq_true rfl⟩) (x_recv C (hR.rdH he59) rfl) rfl hl.1 rfl (Nat.le_of_ble_eq_true rfl) dJ9_init_2_5 ⟨x_bud0 hk, x_bud0 hn⟩) hS (fun r56 X1 h1 H locs hq hR hS => ?_)
  clear hw
  obtain ⟨e1, e2, hw⟩ := hq
  rw [e1, e2] at hR
  refine x_astore_nO (lv' := [(3, va_rf r56), (0, .ref p0), (1, .ref p1), (2, va_rf p2)]) hx hb dJ9_init_2_8 rfl hl (by decide) (by simp only [List.filter_cons, List.filter_nil, x_cat1]; rfl) (fun ls hl => ?_)
  refine lv_aload_n hx hb dJ9_init_2_9 rfl (lv_at hl 2 rfl) ?_
  obtain ⟨t61, fs62, he63, hw⟩ := hw
  refine x_calli0 (x_runU (n := 0) (As := []) C hR hS (kJ8_length l D N0 gp _ p1 h _ hw) (va_cwO 0 hts (lw_O q869 q871 q870 q872 q873 q98 q874) rfl rfl rfl q876 (by decide +kernel) ⟨Nat.le_of_ble_eq_true rfl, Nat.le_of_ble_eq_true rfl⟩) (x_recv C (hR.rdH he63) rfl) rfl hl.1 rfl (Nat.le_of_ble_eq_true rfl) dJ9_init_2_10 ⟨x_bud0 hk, x_bud0 hn⟩) hS (fun r60 X1 h1 H locs hq hR hS => ?_)
  clear hw
  obtain ⟨e1, e2, hw⟩ := hq
  rw [e1, e2] at hR
  refine lv_istore (lv' := [(4, .int r60), (3, va_rf r56), (0, .ref p0), (1, .ref p1), (2, va_rf p2)]) hx hb dJ9_init_2_13 hl (by decide) (by simp only [List.filter_cons, List.filter_nil, x_cat1]; rfl) (fun ls hl => ?_)
  refine lv_aload_n hx hb dJ9_init_2_15 rfl (lv_at hl 3 rfl) ?_
  obtain ⟨t65, fs66, he67, hw⟩ := hw
  refine x_calli0 (x_runU (n := 0) (As := []) C hR hS (kJ7_isLatin1 l D N0 gp _ p1 h _ hw) (va_cwU 0 hts (lw_U q877 q729 q730 q728 q97 q731) rfl rfl rfl rfl (by decide +kernel) ⟨Nat.le_of_ble_eq_true rfl, Nat.le_of_ble_eq_true rfl⟩) (x_recv C (hR.rdH he67) rfl) rfl hl.1 rfl (Nat.le_of_ble_eq_true rfl) dJ9_init_2_16 ⟨x_bud0 hk, x_bud0 hn⟩) hS (fun r64 X1 h1 H locs hq hR hS => ?_)
  clear hw
  obtain ⟨e1, e2, hw⟩ := hq
  rw [e1, e2] at hR
  refine lv_if_eq (tgt := 41) hx hb dJ9_init_2_19 (by decide) (fun c68 => ?_) (fun c68 => ?_)
  · replace hw := hw.1 c68
    refine x_gets C hS hG.2.2.1.2.2.1 q638 dJ9_init_2_41 ?_
    refine lv_if_eq (tgt := 79) hx hb dJ9_init_2_44 (by decide) (fun c69 => ?_) (fun c69 => ?_)
    · replace hw := hw.1 c69
      exact kJ9_init_2_b79 C hin hR hS hk hn (lv_sub hl [2, 1, 0] rfl) hw
    · replace hw := hw.2 c69
      refine lv_aload_n hx hb dJ9_init_2_47 rfl (lv_at hl 3 rfl) ?_
      obtain ⟨y71, hf70, hw⟩ := hw
      refine x_getH (ci := 8) (Cn := RJ8) (T := TJ8) (N := 4) (k := 2) C hR hf70 rfl in_J8 (by decide) q284 (fun _ h9 => h9) dJ9_init_2_48 ?_
      refine lv_if_eq (tgt := 79) hx hb dJ9_init_2_51 (by decide) (fun c72 => ?_) (fun c72 => ?_)
      · replace hw := hw.1 c72
        exact kJ9_init_2_b79 C hin hR hS hk hn (lv_sub hl [2, 1, 0] rfl) hw
      · replace hw := hw.2 c72
        refine lv_aload_n hx hb dJ9_init_2_54 rfl (lv_at hl 2 rfl) ?_
        refine x_aload_nO hx hb dJ9_init_2_55 rfl (lv_at hl 1 rfl) ?_
        refine lv_iconst (v := 0) hx hb dJ9_init_2_56 (by decide) ?_
        refine lv_iload hx hb dJ9_init_2_57 (lv_at hl 0 rfl) ?_
        exact False.elim hw
  · replace hw := hw.2 c68
    refine lv_aload_n hx hb dJ9_init_2_22 rfl (lv_at hl 2 rfl) ?_
    refine lv_iconst (v := 0) hx hb dJ9_init_2_23 (by decide) ?_
    obtain ⟨t73, fs74, he75, ht76, hl77, hw⟩ := hw
    refine x_putHF (ci := 9) (Cn := RJ9) (T := TJ9) (N := 4) (v := .int 0) C hin hR hS he75 ht76 rfl in_J9 tyJ9_ok nmJ9 1 (by decide) q914 (fun _ h9 => h9) rfl rfl rfl rfl hl77 dJ9_init_2_24 (fun H locs hR hS => ?_)
    obtain ⟨h78, eh78⟩ : ∃ z, z = x_hs h p0 t73 (.inr (9, fs74.set 1 (.int 0))) := ⟨_, rfl⟩
    rw [← eh78] at hR
    replace hw := hw h78 eh78
    refine lv_aload_n hx hb dJ9_init_2_27 rfl (lv_at hl 2 rfl) ?_
    refine x_aload_nO hx hb dJ9_init_2_28 rfl (lv_at hl 1 rfl) ?_
    refine lv_iconst (v := 0) hx hb dJ9_init_2_29 (by decide) ?_
    refine lv_iload hx hb dJ9_init_2_30 (lv_at hl 0 rfl) ?_
    obtain ⟨a79, ea79, hw⟩ := hw
    rw [ea79]
    obtain ⟨ca81, cb82, mc83, ms84, hca81, hcb82, hw⟩ := hw
    refine x_calla (x_runS (n := 3) (As := [.ref a79, .int 0, .int r60]) C hR hS (kJ6_copyOfRange l D N0 gp _ a79 0 r60 h78 ca81 cb82 _ hw) (lw_S q878 q879 q94 q880) rfl rfl (by decide +kernel) ⟨Nat.le_of_ble_eq_true rfl, Nat.le_of_ble_eq_true rfl⟩ rfl hl.1 rfl (Nat.le_of_ble_eq_true rfl) dJ9_init_2_32 ⟨x_bud hk hca81, x_bud hn hcb82⟩) hS (fun r80 X1 h85 H locs hq hR hS => ?_)
    clear hw
    obtain ⟨e1, hw⟩ := hq
    rw [e1] at hR
    have hk := x_budN hk hca81
    have hn := x_budN hn hcb82
    obtain ⟨t86, fs87, he88, ht89, hl90, hw⟩ := hw
    refine x_putHF (ci := 9) (Cn := RJ9) (T := TJ9) (N := 4) (v := va_rf r80) C hin hR hS he88 ht89 rfl in_J9 tyJ9_ok nmJ9 0 (by decide) q913 (fun _ h9 => h9) rfl rfl (x_narA _ _) (x_fitA _ _) hl90 dJ9_init_2_35 (fun H locs hR hS => ?_)
    obtain ⟨h91, eh91⟩ : ∃ z, z = x_hs h85 p0 t86 (.inr (9, fs87.set 0 (va_rf r80))) := ⟨_, rfl⟩
    rw [← eh91] at hR
    replace hw := hw h91 eh91
    refine lv_goto (tgt := 97) hx hb dJ9_init_2_38 (by decide) ?_
    exact kJ9_init_2_b97 C hin hR hS hk hn (lv_sub hl [] rfl) hw
/-- java/lang/String.<init>(Ljava/lang/StringBuilder;)V -/
abbrev rmJ9_init (mc0 ms0 : Nat) : Room := { frames := 4, cells := mc0, slots := ms0, locals := 110 }
section
variable {p : Program} {l : Launch} {e : Env} {s : State} {m : MethodId} {args : Array Value} {below : List Frame} {meth : Method} {c : Code} {D : va_G} {N0 : Nat} {gp : Nat → Nat} {X : x_X} {mc0 ms0 : Nat}
end
def wJ9_init (post : x_H → Prop) (p0 : Nat) (p1 : Nat) (h : x_H) (mc : Nat) (ms : Nat) : Prop :=
  ∃ ca6 cb7 mc8 ms9 : Nat, ca6 + mc8 ≤ mc ∧ cb7 + ms9 ≤ ms ∧ wJ9_init_2 (fun h10 => post h10) p0 p1 none h ca6 cb7
theorem kJ9_init (l : Launch) (D : va_G) (N0 : Nat) (gp : Nat → Nat) (X : x_X) (p0 : Nat) (p1 : Nat) (h : x_H) (mc : Nat) (ms : Nat) (post : x_H → Prop) (hw : wJ9_init post p0 p1 h mc ms) : Met l yJ9_init (ws_ yJ9_init cJ9_init 2 none) (rmJ9_init mc ms) (x_Pc D N0 gp X h [.ref p0, .ref p1]) (x_Qc D N0 (x_Vv (qJv X post))) mc ms (x_A N0) := by
  refine x_startI (lv := [(0, .ref p0), (1, .ref p1)]) (by decide) rfl (Nat.le_of_ble_eq_true rfl) rfl ?_
  intro p e s m below meth c C hin hR ls hl
  have hS : va_S (x_A N0) s.heap s.heap [] := va_S.rf
  obtain ⟨⟨hx, hb, hml, hown, hts⟩, hr, hlocks, hG, hN⟩ := id C
  unfold wJ9_init at hw
  have hk : 0 + mc ≤ mc := Nat.le_of_eq (Nat.zero_add _)
  have hn : 0 + ms ≤ ms := Nat.le_of_eq (Nat.zero_add _)
  refine lv_aload_n hx hb dJ9_init_0 rfl (lv_at hl 0 rfl) ?_
  refine lv_aload_n hx hb dJ9_init_1 rfl (lv_at hl 1 rfl) ?_
  refine lv_null hx hb dJ9_init_2 ?_
  obtain ⟨ca6, cb7, mc8, ms9, hca6, hcb7, hw⟩ := hw
  refine x_callv (x_runI (n := 2) (As := [.ref p1, .null]) (b := p0) C hR hS (kJ9_init_2 l D N0 gp _ p0 p1 none h ca6 cb7 _ hw) q862 q99 q860 q861 rfl rfl rfl (by decide +kernel) ⟨Nat.le_of_ble_eq_true rfl, Nat.le_of_ble_eq_true rfl⟩ rfl hl.1 rfl (Nat.le_of_ble_eq_true rfl) dJ9_init_3 ⟨x_bud hk hca6, x_bud hn hcb7⟩) hS (fun X1 h10 H locs hq hR hS => ?_)
  clear hw
  obtain ⟨e1, hw⟩ := hq
  rw [e1] at hR
  have hk := x_budN hk hca6
  have hn := x_budN hn hcb7
  exact x_endv C hR hS ⟨rfl, ⟨rfl, hw⟩⟩ (x_le hk) (x_le hn) dJ9_init_6
/-- java/lang/StringBuilder.toString()Ljava/lang/String; -/
abbrev rmJ8_toString (mc0 ms0 : Nat) : Room := { frames := 5, cells := mc0, slots := ms0, locals := 131 }
section
variable {p : Program} {l : Launch} {e : Env} {s : State} {m : MethodId} {args : Array Value} {below : List Frame} {meth : Method} {c : Code} {D : va_G} {N0 : Nat} {gp : Nat → Nat} {X : x_X} {mc0 ms0 : Nat}
end
def wJ8_toString (post : Option Nat → x_H → Prop) (p0 : Nat) (h : x_H) (mc : Nat) (ms : Nat) : Prop :=
  ∃ mc13 ms14 : Nat, 1 + mc13 ≤ mc ∧ 4 + ms14 ≤ ms ∧ ∀ q15 : Nat, h q15 = none → ∃ t16 : Nat, t16 ≠ 1 ∧ ∀ h19 : x_H, h19 = x_hs h q15 t16 (.inr (9, [.null, .int 0, .int 0, .int 0])) → ∃ ca20 cb21 mc22 ms23 : Nat, ca20 + mc22 ≤ mc13 ∧ cb21 + ms23 ≤ ms14 ∧ wJ9_init (fun h24 => post (some q15) h24) q15 p0 h19 ca20 cb21
theorem kJ8_toString (l : Launch) (D : va_G) (N0 : Nat) (gp : Nat → Nat) (X : x_X) (p0 : Nat) (h : x_H) (mc : Nat) (ms : Nat) (post : Option Nat → x_H → Prop) (hw : wJ8_toString post p0 h mc ms) : Met l yJ8_toString (ws_ yJ8_toString cJ8_toString 1 (some (.object "java/lang/String"))) (rmJ8_toString mc ms) (x_Pc D N0 gp X h [.ref p0]) (x_Qc D N0 (x_Va (qJa X post))) mc ms (x_A N0) := by
  refine x_start (lv := [(0, .ref p0)]) (by decide) rfl (Nat.le_of_ble_eq_true rfl) rfl ?_
  intro p e s m below meth c C hR ls hl
  have hS : va_S (x_A N0) s.heap s.heap [] := va_S.rf
  obtain ⟨⟨hx, hb, hml, hown, hts⟩, hr, hlocks, hG, hN⟩ := id C
  unfold wJ8_toString at hw
  have hk : 0 + mc ≤ mc := Nat.le_of_eq (Nat.zero_add _)
  have hn : 0 + ms ≤ ms := Nat.le_of_eq (Nat.zero_add _)
  obtain ⟨mc13, ms14, hmc13, hms14, hw⟩ := hw
  refine x_newH (ci := 9) (Cn := RJ9) (T := TJ9) (N := 4) (fs := [.null, .int 0, .int 0, .int 0]) C hR hS rfl in_J9 tyJ9_ok q855 q856 q99 (by decide +kernel) (x_bud hk hmc13) (x_bud hn hms14) dJ8_toString_0 (fun q15 H hq17 hRn hS => ?_)
  obtain ⟨t16, ht18, hw⟩ := hw q15 hq17
  have hR := hRn t16 ht18
  obtain ⟨h19, eh19⟩ : ∃ z, z = x_hs h q15 t16 (.inr (9, [.null, .int 0, .int 0, .int 0])) := ⟨_, rfl⟩
  rw [← eh19] at hR
  replace hw := hw h19 eh19
  have hk := x_budN hk hmc13
  have hn := x_budN hn hms14
  refine lv_dup hx hb dJ8_toString_3 rfl ?_
  refine lv_aload_n hx hb dJ8_toString_4 rfl (lv_at hl 0 rfl) ?_
  obtain ⟨ca20, cb21, mc22, ms23, hca20, hcb21, hw⟩ := hw
  refine x_callv (x_runI (n := 1) (As := [.ref p0]) (b := q15) C hR hS (kJ9_init l D N0 gp _ q15 p0 h19 ca20 cb21 _ hw) q859 q99 q857 q858 rfl rfl rfl (by decide +kernel) ⟨Nat.le_of_ble_eq_true rfl, Nat.le_of_ble_eq_true rfl⟩ rfl hl.1 rfl (Nat.le_of_ble_eq_true rfl) dJ8_toString_5 ⟨x_bud hk hca20, x_bud hn hcb21⟩) hS (fun X1 h24 H locs hq hR hS => ?_)
  clear hw
  obtain ⟨e1, hw⟩ := hq
  rw [e1] at hR
  have hk := x_budN hk hca20
  have hn := x_budN hn hcb21
  exact x_enda (v := (some q15)) C (Or.inl ⟨_, rfl⟩) hR hS ⟨_, rfl, ⟨rfl, hw⟩⟩ (x_le hk) (x_le hn) dJ8_toString_8
/-- java/util/Arrays.rangeCheck(III)V -/
abbrev rmJ6_rangeCheck : Room := { frames := 0, cells := 0, slots := 0, locals := 0 }
section
variable {p : Program} {l : Launch} {e : Env} {s : State} {m : MethodId} {args : Array Value} {below : List Frame} {meth : Method} {c : Code} {D : va_G} {N0 : Nat} {gp : Nat → Nat} {X : x_X} {h : x_H}
end
def wJ6_rangeCheck (post : Prop) (p0 : Int32) (p1 : Int32) (p2 : Int32) : Prop :=
  (p1 ≤ p2 → (0 ≤ p1 → (p2 ≤ p0 → post) ∧ (¬ p2 ≤ p0 → False)) ∧ (¬ 0 ≤ p1 → False)) ∧ (¬ p1 ≤ p2 → False)
theorem kJ6_rangeCheck (l : Launch) (D : va_G) (N0 : Nat) (gp : Nat → Nat) (X : x_X) (h : x_H) (p0 : Int32) (p1 : Int32) (p2 : Int32) (post : Prop) (hw : wJ6_rangeCheck post p0 p1 p2 ) : Met l yJ6_rangeCheck (ws_ yJ6_rangeCheck cJ6_rangeCheck 3 none) rmJ6_rangeCheck (x_Pc D N0 gp X h [.int p0, .int p1, .int p2]) (x_Qc D N0 (x_Vv (qPv X h post))) 0 0 (x_A N0) := by
  refine x_start (lv := [(0, .int p0), (1, .int p1), (2, .int p2)]) (by decide) rfl (Nat.le_of_ble_eq_true rfl) rfl ?_
  intro p e s m below meth c C hR ls hl
  have hS : va_S (x_A N0) s.heap s.heap [] := va_S.rf
  obtain ⟨⟨hx, hb, hml, hown, hts⟩, hr, hlocks, hG, hN⟩ := id C
  unfold wJ6_rangeCheck at hw
  refine lv_iload_n hx hb dJ6_rangeCheck_0 rfl (lv_at hl 1 rfl) ?_
  refine lv_iload_n hx hb dJ6_rangeCheck_1 rfl (lv_at hl 2 rfl) ?_
  refine lv_icmp_le (tgt := 46) hx hb dJ6_rangeCheck_2 (by decide) (fun c4 => ?_) (fun c4 => ?_)
  · replace hw := hw.1 c4
    refine lv_iload_n hx hb dJ6_rangeCheck_46 rfl (lv_at hl 1 rfl) ?_
    refine lv_if_ge (tgt := 59) hx hb dJ6_rangeCheck_47 (by decide) (fun c5 => ?_) (fun c5 => ?_)
    · replace hw := hw.1 c5
      refine lv_iload_n hx hb dJ6_rangeCheck_59 rfl (lv_at hl 2 rfl) ?_
      refine lv_iload_n hx hb dJ6_rangeCheck_60 rfl (lv_at hl 0 rfl) ?_
      refine lv_icmp_le (tgt := 73) hx hb dJ6_rangeCheck_61 (by decide) (fun c6 => ?_) (fun c6 => ?_)
      · replace hw := hw.1 c6
        exact x_endv C hR hS ⟨rfl, ⟨rfl, rfl, hw⟩⟩ (Nat.le_refl _) (Nat.le_refl _) dJ6_rangeCheck_73
      · replace hw := hw.2 c6
        exact False.elim hw
    · replace hw := hw.2 c5
      exact False.elim hw
  · replace hw := hw.2 c4
    exact False.elim hw
/-- java/util/Arrays.fill([BIIB)V -/
abbrev rmJ6_fill : Room := { frames := 1, cells := 0, slots := 0, locals := 22 }
section
variable {p : Program} {l : Launch} {e : Env} {s : State} {m : MethodId} {args : Array Value} {below : List Frame} {meth : Method} {c : Code} {D : va_G} {N0 : Nat} {gp : Nat → Nat} {X : x_X}
def wJ6_fill_b27 (post : x_H → Prop) (p0 : Nat) (p1 : Int32) (p2 : Int32) (p3 : Int32) (h : x_H) : Prop :=
  post h
theorem kJ6_fill_b27 {post : x_H → Prop} {p0 : Nat} {p1 : Int32} {p2 : Int32} {p3 : Int32} (C : x_C p s m args meth c cJ6_fill 5 none RJ6 D N0 gp) {h : x_H} {H : Heap} {locs : List Loc} {ls : Array Slot} (hR : x_R D s N0 X h H) (hS : va_S (x_A N0) s.heap H locs) (hl : lv_has ls 5 []) (hw : wJ6_fill_b27 post p0 p1 p2 p3 h) : W p l e rmJ6_fill s m args below meth c H locs 0 0 (MQ below (x_Qc D N0 (x_Vv (qJv X post))) args s 0 0 (x_A N0)) (F0 m 27 ls []) := by
  obtain ⟨⟨hx, hb, hml, hown, hts⟩, hr, hlocks, hG, hN⟩ := id C
  unfold wJ6_fill_b27 at hw
  exact x_endv C hR hS ⟨rfl, ⟨rfl, hw⟩⟩ (Nat.le_refl _) (Nat.le_refl _) dJ6_fill_27
def tJ6_fill_b10 (post : x_H → Prop) (K10 : x_H → Int32 → Prop) (p0 : Nat) (p1 : Int32) (p2 : Int32) (p3 : Int32) (h : x_H) (x4 : Int32) : Prop :=
  (p2 ≤ x4 → wJ6_fill_b27 post p0 p1 p2 p3 h) ∧ (¬ p2 ≤ x4 → ∃ (t20 n21 : Nat) (f22 : Nat → Int32), h p0 = some (t20, .inl (.byte, (n21, .inl f22))) ∧ t20 ≠ 1 ∧ vp_in x4 n21 ∧ ∀ h26 : x_H, h26 = x_hs h p0 t20 (.inl (.byte, (n21, .inl (upd f22 x4.toNatClampNeg (vp_nar .byte p3))))) → K10 h26 (x4 + 1))
def wJ6_fill_b10 (post : x_H → Prop) (p0 : Nat) (p1 : Int32) (p2 : Int32) (p3 : Int32) : Nat → x_H → Int32 → Prop
  | 0 => fun _ _ => False
  | n + 1 => fun h x4 => tJ6_fill_b10 post (wJ6_fill_b10 post p0 p1 p2 p3 n) p0 p1 p2 p3 h x4
theorem kJ6_fill_b10 {post : x_H → Prop} {p0 : Nat} {p1 : Int32} {p2 : Int32} {p3 : Int32} (C : x_C p s m args meth c cJ6_fill 5 none RJ6 D N0 gp) : ∀ (nn : Nat) (h : x_H) (x4 : Int32) (H : Heap) (locs : List Loc) (ls : Array Slot), x_R D s N0 X h H → va_S (x_A N0) s.heap H locs → lv_has ls 5 [(0, .ref p0), (2, .int p2), (3, .int p3), (4, .int x4)] → wJ6_fill_b10 post p0 p1 p2 p3 nn h x4 → W p l e rmJ6_fill s m args below meth c H locs 0 0 (MQ below (x_Qc D N0 (x_Vv (qJv X post))) args s 0 0 (x_A N0)) (F0 m 10 ls []) := by
  obtain ⟨⟨hx, hb, hml, hown, hts⟩, hr, hlocks, hG, hN⟩ := id C
  intro nn
  induction nn with
  | zero =>
    intro h x4 H locs ls hR hS hl hw
    exact False.elim hw
  | succ nn ih =>
    intro h x4 H locs ls hR hS hl hw
    have hK10 := ih
    replace hw : tJ6_fill_b10 post (wJ6_fill_b10 post p0 p1 p2 p3 nn) p0 p1 p2 p3 h x4 := hw
    unfold tJ6_fill_b10 at hw
    refine lv_iload hx hb dJ6_fill_10 (lv_at hl 3 rfl) ?_
    refine lv_iload_n hx hb dJ6_fill_12 rfl (lv_at hl 1 rfl) ?_
    refine lv_icmp_ge (tgt := 27) hx hb dJ6_fill_13 (by decide) (fun c19 => ?_) (fun c19 => ?_)
    · replace hw := hw.1 c19
      exact kJ6_fill_b27 C hR hS (lv_sub hl [] rfl) hw
    · replace hw := hw.2 c19
      refine lv_aload_n hx hb dJ6_fill_16 rfl (lv_at hl 0 rfl) ?_
      refine lv_iload hx hb dJ6_fill_17 (lv_at hl 3 rfl) ?_
      refine lv_iload_n hx hb dJ6_fill_19 rfl (lv_at hl 2 rfl) ?_
      obtain ⟨t20, n21, f22, he23, ht24, b25, hw⟩ := hw
      refine x_bastH C hR hS he23 ht24 b25 dJ6_fill_20 (fun H locs hR hS => ?_)
      obtain ⟨h26, eh26⟩ : ∃ z, z = x_hs h p0 t20 (.inl (.byte, (n21, .inl (upd f22 x4.toNatClampNeg (vp_nar .byte p3))))) := ⟨_, rfl⟩
      rw [← eh26] at hR
      replace hw := hw h26 eh26
      refine lv_iinc (v := x4 + 1) (lv' := [(4, .int (x4 + 1)), (0, .ref p0), (2, .int p2), (3, .int p3)]) hx hb dJ6_fill_21 hl (k := 3) rfl (x_inc 1 1 (by decide)) (by decide) rfl (fun ls hl => ?_)
      refine lv_goto (tgt := 10) hx hb dJ6_fill_24 (by decide) ?_
      exact hK10 _ _ _ _ _ hR hS (lv_sub hl [1, 2, 3, 0] rfl) hw
end
def wJ6_fill (post : x_H → Prop) (p0 : Nat) (p1 : Int32) (p2 : Int32) (p3 : Int32) (h : x_H) : Prop :=
  ∃ (t14 : Nat) (ty15 : FieldType) (x16 : vp_A), h p0 = some (t14, .inl (ty15, x16)) ∧ wJ6_rangeCheck (∃ n18 : Nat, wJ6_fill_b10 post p0 p1 p2 p3 n18 h p1) (nI x16.1) p1 p2
theorem kJ6_fill (l : Launch) (D : va_G) (N0 : Nat) (gp : Nat → Nat) (X : x_X) (p0 : Nat) (p1 : Int32) (p2 : Int32) (p3 : Int32) (h : x_H) (post : x_H → Prop) (hw : wJ6_fill post p0 p1 p2 p3 h) : Met l yJ6_fill (ws_ yJ6_fill cJ6_fill 5 none) rmJ6_fill (x_Pc D N0 gp X h [.ref p0, .int p1, .int p2, .int p3]) (x_Qc D N0 (x_Vv (qJv X post))) 0 0 (x_A N0) := by
  refine x_start (lv := [(0, .ref p0), (1, .int p1), (2, .int p2), (3, .int p3)]) (by decide) rfl (Nat.le_of_ble_eq_true rfl) rfl ?_
  intro p e s m below meth c C hR ls hl
  have hS : va_S (x_A N0) s.heap s.heap [] := va_S.rf
  obtain ⟨⟨hx, hb, hml, hown, hts⟩, hr, hlocks, hG, hN⟩ := id C
  unfold wJ6_fill at hw
  refine lv_aload_n hx hb dJ6_fill_0 rfl (lv_at hl 0 rfl) ?_
  obtain ⟨t14, ty15, x16, he17, hw⟩ := hw
  refine x_alen C (hR.rdH he17) dJ6_fill_1 ?_
  refine lv_iload_n hx hb dJ6_fill_2 rfl (lv_at hl 1 rfl) ?_
  refine lv_iload_n hx hb dJ6_fill_3 rfl (lv_at hl 2 rfl) ?_
  refine x_callv0 (x_runS (n := 3) (As := [.int (nI x16.1), .int p1, .int p2]) C hR hS (kJ6_rangeCheck l D N0 gp _ _ (nI x16.1) p1 p2 _ hw) (lw_S q738 q739 q94 q740) rfl rfl (by decide +kernel) ⟨Nat.le_of_ble_eq_true rfl, Nat.le_of_ble_eq_true rfl⟩ rfl hl.1 rfl (Nat.le_of_ble_eq_true rfl) dJ6_fill_4 ⟨Nat.le_refl _, Nat.le_refl _⟩) hS (fun X1 h1 H locs hq hR hS => ?_)
  clear hw
  obtain ⟨e1, e2, hw⟩ := hq
  rw [e1, e2] at hR
  refine lv_iload_n hx hb dJ6_fill_7 rfl (lv_at hl 1 rfl) ?_
  refine lv_istore (lv' := [(4, .int p1), (0, .ref p0), (1, .int p1), (2, .int p2), (3, .int p3)]) hx hb dJ6_fill_8 hl (by decide) rfl (fun ls hl => ?_)
  obtain ⟨n18, hw⟩ := hw
  exact kJ6_fill_b10 C n18 _ _ _ _ _ hR hS (lv_sub hl [1, 3, 4, 0] rfl) hw
/-- java/lang/StringLatin1.fillNull([BII)V -/
abbrev rmJ17_fillNull : Room := { frames := 2, cells := 0, slots := 0, locals := 46 }
section
variable {p : Program} {l : Launch} {e : Env} {s : State} {m : MethodId} {args : Array Value} {below : List Frame} {meth : Method} {c : Code} {D : va_G} {N0 : Nat} {gp : Nat → Nat} {X : x_X}
end
def wJ17_fillNull (post : x_H → Prop) (p0 : Nat) (p1 : Int32) (p2 : Int32) (h : x_H) : Prop :=
  wJ6_fill (fun h2 => post h2) p0 p1 p2 0 h
theorem kJ17_fillNull (l : Launch) (D : va_G) (N0 : Nat) (gp : Nat → Nat) (X : x_X) (p0 : Nat) (p1 : Int32) (p2 : Int32) (h : x_H) (post : x_H → Prop) (hw : wJ17_fillNull post p0 p1 p2 h) : Met l yJ17_fillNull (ws_ yJ17_fillNull cJ17_fillNull 3 none) rmJ17_fillNull (x_Pc D N0 gp X h [.ref p0, .int p1, .int p2]) (x_Qc D N0 (x_Vv (qJv X post))) 0 0 (x_A N0) := by
  refine x_start (lv := [(0, .ref p0), (1, .int p1), (2, .int p2)]) (by decide) rfl (Nat.le_of_ble_eq_true rfl) rfl ?_
  intro p e s m below meth c C hR ls hl
  have hS : va_S (x_A N0) s.heap s.heap [] := va_S.rf
  obtain ⟨⟨hx, hb, hml, hown, hts⟩, hr, hlocks, hG, hN⟩ := id C
  unfold wJ17_fillNull at hw
  refine lv_aload_n hx hb dJ17_fillNull_0 rfl (lv_at hl 0 rfl) ?_
  refine lv_iload_n hx hb dJ17_fillNull_1 rfl (lv_at hl 1 rfl) ?_
  refine lv_iload_n hx hb dJ17_fillNull_2 rfl (lv_at hl 2 rfl) ?_
  refine lv_iconst (v := 0) hx hb dJ17_fillNull_3 (by decide) ?_
  refine x_callv0 (x_runS (n := 4) (As := [.ref p0, .int p1, .int p2, .int 0]) C hR hS (kJ6_fill l D N0 gp _ p0 p1 p2 0 h _ hw) (lw_S q735 q736 q94 q737) rfl rfl (by decide +kernel) ⟨Nat.le_of_ble_eq_true rfl, Nat.le_of_ble_eq_true rfl⟩ rfl hl.1 rfl (Nat.le_of_ble_eq_true rfl) dJ17_fillNull_4 ⟨Nat.le_refl _, Nat.le_refl _⟩) hS (fun X1 h2 H locs hq hR hS => ?_)
  clear hw
  obtain ⟨e1, hw⟩ := hq
  rw [e1] at hR
  exact x_endv C hR hS ⟨rfl, ⟨rfl, hw⟩⟩ (Nat.le_refl _) (Nat.le_refl _) dJ17_fillNull_7
/-- java/lang/AbstractStringBuilder.setLength(I)V -/
abbrev rmJ7_setLength (mc0 ms0 : Nat) : Room := { frames := 4, cells := mc0, slots := ms0, locals := 110 }
section
variable {p : Program} {l : Launch} {e : Env} {s : State} {m : MethodId} {args : Array Value} {below : List Frame} {meth : Method} {c : Code} {D : va_G} {N0 : Nat} {gp : Nat → Nat} {X : x_X} {mc0 ms0 : Nat}
def wJ7_setLength_b76 (post : x_H → Prop) (p0 : Nat) (p1 : Int32) (h : x_H) (mc : Nat) (ms : Nat) : Prop :=
  ∃ (t79 : Nat) (fs80 : List Value), h p0 = some (t79, .inr (8, fs80)) ∧ t79 ≠ 1 ∧ 3 < fs80.length ∧ ∀ h84 : x_H, h84 = x_hs h p0 t79 (.inr (8, fs80.set 3 (.int p1))) → post h84
theorem kJ7_setLength_b76 {post : x_H → Prop} {p0 : Nat} {p1 : Int32} (C : x_C p s m args meth c cJ7_setLength 2 none RJ7 D N0 gp) {h : x_H} {mc : Nat} {ms : Nat} {k n : Nat} {H : Heap} {locs : List Loc} {ls : Array Slot} (hR : x_R D s N0 X h H) (hS : va_S (x_A N0) s.heap H locs) (hk : k + mc ≤ mc0) (hn : n + ms ≤ ms0) (hl : lv_has ls 2 [(0, .ref p0), (1, .int p1)]) (hw : wJ7_setLength_b76 post p0 p1 h mc ms) : W p l e (rmJ7_setLength mc0 ms0) s m args below meth c H locs k n (MQ below (x_Qc D N0 (x_Vv (qJv X post))) args s mc0 ms0 (x_A N0)) (F0 m 76 ls []) := by
  obtain ⟨⟨hx, hb, hml, hown, hts⟩, hr, hlocks, hG, hN⟩ := id C
  unfold wJ7_setLength_b76 at hw
  refine lv_aload_n hx hb dJ7_setLength_76 rfl (lv_at hl 0 rfl) ?_
  refine lv_iload_n hx hb dJ7_setLength_77 rfl (lv_at hl 1 rfl) ?_
  obtain ⟨t79, fs80, he81, ht82, hl83, hw⟩ := hw
  refine x_putH (ci := 8) (Cn := RJ8) (T := TJ8) (N := 4) (v := .int p1) C hR hS he81 ht82 rfl in_J8 tyJ8_ok nmJ8 3 (by decide) q285 (fun _ h9 => h9) rfl rfl rfl hl83 dJ7_setLength_78 (fun H locs hR hS => ?_)
  obtain ⟨h84, eh84⟩ : ∃ z, z = x_hs h p0 t79 (.inr (8, fs80.set 3 (.int p1))) := ⟨_, rfl⟩
  rw [← eh84] at hR
  replace hw := hw h84 eh84
  exact x_endv C hR hS ⟨rfl, ⟨rfl, hw⟩⟩ (x_le hk) (x_le hn) dJ7_setLength_81
end
def wJ7_setLength (post : x_H → Prop) (p0 : Nat) (p1 : Int32) (h : x_H) (mc : Nat) (ms : Nat) : Prop :=
  (0 ≤ p1 → ∃ (t49 : Nat) (fs50 : List Value), h p0 = some (t49, .inr (8, fs50)) ∧ ∃ ca44 cb45 mc46 ms47 : Nat, ca44 + mc46 ≤ mc ∧ cb45 + ms47 ≤ ms ∧ wJ7_ensureCapacityInternal (fun h48 => ∃ y53 : Int32, x_f h48 p0 8 3 (.int y53) ∧ (p1 ≤ y53 → ∃ y56 : Int32, x_f h48 p0 8 3 (.int y56) ∧ (y56 ≤ p1 → wJ7_setLength_b76 post p0 p1 h48 mc46 ms47) ∧ (¬ y56 ≤ p1 → ∃ (t58 : Nat) (fs59 : List Value), h48 p0 = some (t58, .inr (8, fs59)) ∧ t58 ≠ 1 ∧ 2 < fs59.length ∧ ∀ h63 : x_H, h63 = x_hs h48 p0 t58 (.inr (8, fs59.set 2 (.int 1))) → wJ7_setLength_b76 post p0 p1 h63 mc46 ms47)) ∧ (¬ p1 ≤ y53 → ∃ (t65 : Nat) (fs66 : List Value), h48 p0 = some (t65, .inr (8, fs66)) ∧ wJ7_isLatin1 (fun r64 => (r64 = 0 → ∃ v70 : Option Nat, x_f h48 p0 8 0 (va_rf v70) ∧ ∃ y72 : Int32, x_f h48 p0 8 3 (.int y72) ∧ False) ∧ (¬ r64 = 0 → ∃ v74 : Option Nat, x_f h48 p0 8 0 (va_rf v74) ∧ ∃ y76 : Int32, x_f h48 p0 8 3 (.int y76) ∧ ∃ a77 : Nat, v74 = some a77 ∧ wJ17_fillNull (fun h78 => wJ7_setLength_b76 post p0 p1 h78 mc46 ms47) a77 y76 p1 h48)) p0 h48)) p0 p1 h ca44 cb45) ∧ (¬ 0 ≤ p1 → False)
theorem kJ7_setLength (l : Launch) (D : va_G) (N0 : Nat) (gp : Nat → Nat) (X : x_X) (p0 : Nat) (p1 : Int32) (h : x_H) (mc : Nat) (ms : Nat) (post : x_H → Prop) (hw : wJ7_setLength post p0 p1 h mc ms) : Met l yJ7_setLength (ws_ yJ7_setLength cJ7_setLength 2 none) (rmJ7_setLength mc ms) (x_Pc D N0 gp X h [.ref p0, .int p1]) (x_Qc D N0 (x_Vv (qJv X post))) mc ms (x_A N0) := by
  refine x_start (lv := [(0, .ref p0), (1, .int p1)]) (by decide) rfl (Nat.le_of_ble_eq_true rfl) rfl ?_
  intro p e s m below meth c C hR ls hl
  have hS : va_S (x_A N0) s.heap s.heap [] := va_S.rf
  obtain ⟨⟨hx, hb, hml, hown, hts⟩, hr, hlocks, hG, hN⟩ := id C
  unfold wJ7_setLength at hw
  have hk : 0 + mc ≤ mc := Nat.le_of_eq (Nat.zero_add _)
  have hn : 0 + ms ≤ ms := Nat.le_of_eq (Nat.zero_add _)
  refine lv_iload_n hx hb dJ7_setLength_0 rfl (lv_at hl 1 rfl) ?_
  refine lv_if_ge (tgt := 13) hx hb dJ7_setLength_1 (by decide) (fun c43 => ?_) (fun c43 => ?_)
  · replace hw := hw.1 c43
    refine lv_aload_n hx hb dJ7_setLength_13 rfl (lv_at hl 0 rfl) ?_
    refine lv_iload_n hx hb dJ7_setLength_14 rfl (lv_at hl 1 rfl) ?_
    obtain ⟨t49, fs50, he51, hw⟩ := hw
    obtain ⟨ca44, cb45, mc46, ms47, hca44, hcb45, hw⟩ := hw
    refine x_callv (x_runU (n := 1) (As := [.int p1]) C hR hS (kJ7_ensureCapacityInternal l D N0 gp _ p0 p1 h ca44 cb45 _ hw) (x_cwP C 1 8 rfl q707 q1582 q708 q709 q97 q710 rfl rfl (by decide +kernel) ⟨Nat.le_of_ble_eq_true rfl, Nat.le_of_ble_eq_true rfl⟩) (x_recv C (hR.rdH he51) rfl) rfl hl.1 rfl (Nat.le_of_ble_eq_true rfl) dJ7_setLength_15 ⟨x_bud hk hca44, x_bud hn hcb45⟩) hS (fun X1 h48 H locs hq hR hS => ?_)
    clear hw
    obtain ⟨e1, hw⟩ := hq
    rw [e1] at hR
    have hk := x_budN hk hca44
    have hn := x_budN hn hcb45
    refine lv_aload_n hx hb dJ7_setLength_18 rfl (lv_at hl 0 rfl) ?_
    obtain ⟨y53, hf52, hw⟩ := hw
    refine x_getH (ci := 8) (Cn := RJ8) (T := TJ8) (N := 4) (k := 3) C hR hf52 rfl in_J8 (by decide) q285 (fun _ h9 => h9) dJ7_setLength_19 ?_
    refine lv_iload_n hx hb dJ7_setLength_22 rfl (lv_at hl 1 rfl) ?_
    refine lv_icmp_ge (tgt := 63) hx hb dJ7_setLength_23 (by decide) (fun c54 => ?_) (fun c54 => ?_)
    · replace hw := hw.1 c54
      refine lv_aload_n hx hb dJ7_setLength_63 rfl (lv_at hl 0 rfl) ?_
      obtain ⟨y56, hf55, hw⟩ := hw
      refine x_getH (ci := 8) (Cn := RJ8) (T := TJ8) (N := 4) (k := 3) C hR hf55 rfl in_J8 (by decide) q285 (fun _ h9 => h9) dJ7_setLength_64 ?_
      refine lv_iload_n hx hb dJ7_setLength_67 rfl (lv_at hl 1 rfl) ?_
      refine lv_icmp_le (tgt := 76) hx hb dJ7_setLength_68 (by decide) (fun c57 => ?_) (fun c57 => ?_)
      · replace hw := hw.1 c57
        exact kJ7_setLength_b76 C hR hS hk hn (lv_sub hl [0, 1] rfl) hw
      · replace hw := hw.2 c57
        refine lv_aload_n hx hb dJ7_setLength_71 rfl (lv_at hl 0 rfl) ?_
        refine lv_iconst (v := 1) hx hb dJ7_setLength_72 (by decide) ?_
        obtain ⟨t58, fs59, he60, ht61, hl62, hw⟩ := hw
        refine x_putH (ci := 8) (Cn := RJ8) (T := TJ8) (N := 4) (v := .int 1) C hR hS he60 ht61 rfl in_J8 tyJ8_ok nmJ8 2 (by decide) q283 (fun _ h9 => h9) rfl rfl rfl hl62 dJ7_setLength_73 (fun H locs hR hS => ?_)
        obtain ⟨h63, eh63⟩ : ∃ z, z = x_hs h48 p0 t58 (.inr (8, fs59.set 2 (.int 1))) := ⟨_, rfl⟩
        rw [← eh63] at hR
        replace hw := hw h63 eh63
        exact kJ7_setLength_b76 C hR hS hk hn (lv_sub hl [0, 1] rfl) hw
    · replace hw := hw.2 c54
      refine lv_aload_n hx hb dJ7_setLength_26 rfl (lv_at hl 0 rfl) ?_
      obtain ⟨t65, fs66, he67, hw⟩ := hw
      refine x_calli0 (x_runU (n := 0) (As := []) C hR hS (kJ7_isLatin1 l D N0 gp _ p0 h48 _ hw) (va_cwU 0 hts (lw_U q727 q729 q730 q728 q97 q731) rfl rfl rfl rfl (by decide +kernel) ⟨Nat.le_of_ble_eq_true rfl, Nat.le_of_ble_eq_true rfl⟩) (x_recv C (hR.rdH he67) rfl) rfl hl.1 rfl (Nat.le_of_ble_eq_true rfl) dJ7_setLength_27 ⟨x_bud0 hk, x_bud0 hn⟩) hS (fun r64 X1 h1 H locs hq hR hS => ?_)
      clear hw
      obtain ⟨e1, e2, hw⟩ := hq
      rw [e1, e2] at hR
      refine lv_if_eq (tgt := 48) hx hb dJ7_setLength_30 (by decide) (fun c68 => ?_) (fun c68 => ?_)
      · replace hw := hw.1 c68
        refine lv_aload_n hx hb dJ7_setLength_48 rfl (lv_at hl 0 rfl) ?_
        obtain ⟨v70, hf69, hw⟩ := hw
        refine x_getH (ci := 8) (Cn := RJ8) (T := TJ8) (N := 4) (k := 0) C hR hf69 rfl in_J8 (by decide) q281 (fun _ h9 => h9) dJ7_setLength_49 ?_
        refine lv_aload_n hx hb dJ7_setLength_52 rfl (lv_at hl 0 rfl) ?_
        obtain ⟨y72, hf71, hw⟩ := hw
        refine x_getH (ci := 8) (Cn := RJ8) (T := TJ8) (N := 4) (k := 3) C hR hf71 rfl in_J8 (by decide) q285 (fun _ h9 => h9) dJ7_setLength_53 ?_
        refine lv_iload_n hx hb dJ7_setLength_56 rfl (lv_at hl 1 rfl) ?_
        exact False.elim hw
      · replace hw := hw.2 c68
        refine lv_aload_n hx hb dJ7_setLength_33 rfl (lv_at hl 0 rfl) ?_
        obtain ⟨v74, hf73, hw⟩ := hw
        refine x_getH (ci := 8) (Cn := RJ8) (T := TJ8) (N := 4) (k := 0) C hR hf73 rfl in_J8 (by decide) q281 (fun _ h9 => h9) dJ7_setLength_34 ?_
        refine lv_aload_n hx hb dJ7_setLength_37 rfl (lv_at hl 0 rfl) ?_
        obtain ⟨y76, hf75, hw⟩ := hw
        refine x_getH (ci := 8) (Cn := RJ8) (T := TJ8) (N := 4) (k := 3) C hR hf75 rfl in_J8 (by decide) q285 (fun _ h9 => h9) dJ7_setLength_38 ?_
        refine lv_iload_n hx hb dJ7_setLength_41 rfl (lv_at hl 1 rfl) ?_
        obtain ⟨a77, ea77, hw⟩ := hw
        rw [ea77]
        refine x_callv0 (x_runS (n := 3) (As := [.ref a77, .int y76, .int p1]) C hR hS (kJ17_fillNull l D N0 gp _ a77 y76 p1 h48 _ hw) (lw_S q732 q733 q109 q734) rfl rfl (by decide +kernel) ⟨Nat.le_of_ble_eq_true rfl, Nat.le_of_ble_eq_true rfl⟩ rfl hl.1 rfl (Nat.le_of_ble_eq_true rfl) dJ7_setLength_42 ⟨x_bud0 hk, x_bud0 hn⟩) hS (fun X1 h78 H locs hq hR hS => ?_)
        clear hw
        obtain ⟨e1, hw⟩ := hq
        rw [e1] at hR
        refine lv_goto (tgt := 76) hx hb dJ7_setLength_45 (by decide) ?_
        exact kJ7_setLength_b76 C hR hS hk hn (lv_sub hl [0, 1] rfl) hw
  · replace hw := hw.2 c43
    exact False.elim hw
/-- java/lang/StringBuilder.setLength(I)V -/
abbrev rmJ8_setLength (mc0 ms0 : Nat) : Room := { frames := 5, cells := mc0, slots := ms0, locals := 131 }
section
variable {p : Program} {l : Launch} {e : Env} {s : State} {m : MethodId} {args : Array Value} {below : List Frame} {meth : Method} {c : Code} {D : va_G} {N0 : Nat} {gp : Nat → Nat} {X : x_X} {mc0 ms0 : Nat}
end
def wJ8_setLength (post : x_H → Prop) (p0 : Nat) (p1 : Int32) (h : x_H) (mc : Nat) (ms : Nat) : Prop :=
  ∃ (t14 : Nat) (fs15 : List Value), h p0 = some (t14, .inr (8, fs15)) ∧ ∃ ca9 cb10 mc11 ms12 : Nat, ca9 + mc11 ≤ mc ∧ cb10 + ms12 ≤ ms ∧ wJ7_setLength (fun h13 => post h13) p0 p1 h ca9 cb10
theorem kJ8_setLength (l : Launch) (D : va_G) (N0 : Nat) (gp : Nat → Nat) (X : x_X) (p0 : Nat) (p1 : Int32) (h : x_H) (mc : Nat) (ms : Nat) (post : x_H → Prop) (hw : wJ8_setLength post p0 p1 h mc ms) : Met l yJ8_setLength (ws_ yJ8_setLength cJ8_setLength 2 none) (rmJ8_setLength mc ms) (x_Pc D N0 gp X h [.ref p0, .int p1]) (x_Qc D N0 (x_Vv (qJv X post))) mc ms (x_A N0) := by
  refine x_start (lv := [(0, .ref p0), (1, .int p1)]) (by decide) rfl (Nat.le_of_ble_eq_true rfl) rfl ?_
  intro p e s m below meth c C hR ls hl
  have hS : va_S (x_A N0) s.heap s.heap [] := va_S.rf
  obtain ⟨⟨hx, hb, hml, hown, hts⟩, hr, hlocks, hG, hN⟩ := id C
  unfold wJ8_setLength at hw
  have hk : 0 + mc ≤ mc := Nat.le_of_eq (Nat.zero_add _)
  have hn : 0 + ms ≤ ms := Nat.le_of_eq (Nat.zero_add _)
  refine lv_aload_n hx hb dJ8_setLength_0 rfl (lv_at hl 0 rfl) ?_
  refine lv_iload_n hx hb dJ8_setLength_1 rfl (lv_at hl 1 rfl) ?_
  obtain ⟨t14, fs15, he16, hw⟩ := hw
  obtain ⟨ca9, cb10, mc11, ms12, hca9, hcb10, hw⟩ := hw
  refine x_callv (x_runSU (n := 1) (As := [.int p1]) (b := p0) C hR hS (kJ7_setLength l D N0 gp _ p0 p1 h ca9 cb10 _ hw) (lw_SU q704 q1581 q294 q705 q97 q706) rfl rfl (by decide +kernel) ⟨Nat.le_of_ble_eq_true rfl, Nat.le_of_ble_eq_true rfl⟩ (hR.rdH he16) rfl rfl hl.1 rfl (Nat.le_of_ble_eq_true rfl) dJ8_setLength_2 ⟨x_bud hk hca9, x_bud hn hcb10⟩) hS (fun X1 h13 H locs hq hR hS => ?_)
  clear hw
  obtain ⟨e1, hw⟩ := hq
  rw [e1] at hR
  have hk := x_budN hk hca9
  have hn := x_budN hn hcb10
  exact x_endv C hR hS ⟨rfl, ⟨rfl, hw⟩⟩ (x_le hk) (x_le hn) dJ8_setLength_5
/-- java/lang/String.isLatin1()Z -/
abbrev rmJ9_isLatin1 : Room := { frames := 0, cells := 0, slots := 0, locals := 0 }
section
variable {p : Program} {l : Launch} {e : Env} {s : State} {m : MethodId} {args : Array Value} {below : List Frame} {meth : Method} {c : Code} {D : va_G} {N0 : Nat} {gp : Nat → Nat} {X : x_X}
def wJ9_isLatin1_b18 (post : Int32 → Prop) (p0 : Nat) (h : x_H) (s0 : Int32) : Prop :=
  narrow .boolean (.int s0) = .int s0 ∧ post s0 
theorem kJ9_isLatin1_b18 {post : Int32 → Prop} {p0 : Nat} {h : x_H} (C : x_C p s m args meth c cJ9_isLatin1 1 (some .boolean) RJ9 D N0 gp) {s0 : Int32} {H : Heap} {locs : List Loc} {ls : Array Slot} (hR : x_R D s N0 X h H) (hS : va_S (x_A N0) s.heap H locs) (hl : lv_has ls 1 []) (hw : wJ9_isLatin1_b18 post p0 h s0) : W p l e rmJ9_isLatin1 s m args below meth c H locs 0 0 (MQ below (x_Qc D N0 (x_Vi (qPi X h post))) args s 0 0 (x_A N0)) (F0 m 18 ls [.int s0]) := by
  obtain ⟨⟨hx, hb, hml, hown, hts⟩, hr, hlocks, hG, hN⟩ := id C
  unfold wJ9_isLatin1_b18 at hw
  obtain ⟨hz, hw⟩ := hw
  exact x_endz C hR hS hz ⟨_, rfl, ⟨rfl, rfl, hw⟩⟩ (Nat.le_refl _) (Nat.le_refl _) dJ9_isLatin1_18
def wJ9_isLatin1_b17 (post : Int32 → Prop) (p0 : Nat) (h : x_H) : Prop :=
  wJ9_isLatin1_b18 post p0 h 0
theorem kJ9_isLatin1_b17 {post : Int32 → Prop} {p0 : Nat} {h : x_H} (C : x_C p s m args meth c cJ9_isLatin1 1 (some .boolean) RJ9 D N0 gp) {H : Heap} {locs : List Loc} {ls : Array Slot} (hR : x_R D s N0 X h H) (hS : va_S (x_A N0) s.heap H locs) (hl : lv_has ls 1 []) (hw : wJ9_isLatin1_b17 post p0 h ) : W p l e rmJ9_isLatin1 s m args below meth c H locs 0 0 (MQ below (x_Qc D N0 (x_Vi (qPi X h post))) args s 0 0 (x_A N0)) (F0 m 17 ls []) := by
  obtain ⟨⟨hx, hb, hml, hown, hts⟩, hr, hlocks, hG, hN⟩ := id C
  unfold wJ9_isLatin1_b17 at hw
  refine lv_iconst (v := 0) hx hb dJ9_isLatin1_17 (by decide) ?_
  exact kJ9_isLatin1_b18 C hR hS (lv_sub hl [] rfl) hw
end
def wJ9_isLatin1 (post : Int32 → Prop) (p0 : Nat) (h : x_H) : Prop :=
  ((1 : Int32) = 0 → wJ9_isLatin1_b17 post p0 h ) ∧ (¬ (1 : Int32) = 0 → ∃ y7 : Int32, x_f h p0 9 1 (.int y7) ∧ (y7 = 0 → wJ9_isLatin1_b18 post p0 h 1) ∧ (¬ y7 = 0 → wJ9_isLatin1_b17 post p0 h ))
theorem kJ9_isLatin1 (l : Launch) (D : va_G) (N0 : Nat) (gp : Nat → Nat) (X : x_X) (p0 : Nat) (h : x_H) (post : Int32 → Prop) (hw : wJ9_isLatin1 post p0 h ) : Met l yJ9_isLatin1 (ws_ yJ9_isLatin1 cJ9_isLatin1 1 (some .boolean)) rmJ9_isLatin1 (x_Pc D N0 gp X h [.ref p0]) (x_Qc D N0 (x_Vi (qPi X h post))) 0 0 (x_A N0) := by
  refine x_start (lv := [(0, .ref p0)]) (by decide) rfl (Nat.le_of_ble_eq_true rfl) rfl ?_
  intro p e s m below meth c C hR ls hl
  have hS : va_S (x_A N0) s.heap s.heap [] := va_S.rf
  obtain ⟨⟨hx, hb, hml, hown, hts⟩, hr, hlocks, hG, hN⟩ := id C
  unfold wJ9_isLatin1 at hw
  refine x_gets C hS hG.2.2.1.2.2.1 q638 dJ9_isLatin1_0 ?_
  refine lv_if_eq (tgt := 17) hx hb dJ9_isLatin1_3 (by decide) (fun c5 => ?_) (fun c5 => ?_)
  · replace hw := hw.1 c5
    exact kJ9_isLatin1_b17 C hR hS (lv_sub hl [] rfl) hw
  · replace hw := hw.2 c5
    refine lv_aload_n hx hb dJ9_isLatin1_6 rfl (lv_at hl 0 rfl) ?_
    obtain ⟨y7, hf6, hw⟩ := hw
    refine x_getH (ci := 9) (Cn := RJ9) (T := TJ9) (N := 4) (k := 1) C hR hf6 rfl in_J9 (by decide) q914 (fun _ h9 => h9) dJ9_isLatin1_7 ?_
    refine lv_if_ne (tgt := 17) hx hb dJ9_isLatin1_10 (by decide) (fun c8 => ?_) (fun c8 => ?_)
    · replace hw := hw.2 c8
      exact kJ9_isLatin1_b17 C hR hS (lv_sub hl [] rfl) hw
    · replace hw := hw.1 c8
      refine lv_iconst (v := 1) hx hb dJ9_isLatin1_13 (by decide) ?_
      refine lv_goto (tgt := 18) hx hb dJ9_isLatin1_14 (by decide) ?_
      exact kJ9_isLatin1_b18 C hR hS (lv_sub hl [] rfl) hw
/-- java/lang/String.coder()B -/
abbrev rmJ9_coder : Room := { frames := 0, cells := 0, slots := 0, locals := 0 }
section
variable {p : Program} {l : Launch} {e : Env} {s : State} {m : MethodId} {args : Array Value} {below : List Frame} {meth : Method} {c : Code} {D : va_G} {N0 : Nat} {gp : Nat → Nat} {X : x_X}
def wJ9_coder_b14 (post : Int32 → Prop) (p0 : Nat) (h : x_H) (s0 : Int32) : Prop :=
  narrow .byte (.int s0) = .int s0 ∧ post s0 
theorem kJ9_coder_b14 {post : Int32 → Prop} {p0 : Nat} {h : x_H} (C : x_C p s m args meth c cJ9_coder 1 (some .byte) RJ9 D N0 gp) {s0 : Int32} {H : Heap} {locs : List Loc} {ls : Array Slot} (hR : x_R D s N0 X h H) (hS : va_S (x_A N0) s.heap H locs) (hl : lv_has ls 1 []) (hw : wJ9_coder_b14 post p0 h s0) : W p l e rmJ9_coder s m args below meth c H locs 0 0 (MQ below (x_Qc D N0 (x_Vi (qPi X h post))) args s 0 0 (x_A N0)) (F0 m 14 ls [.int s0]) := by
  obtain ⟨⟨hx, hb, hml, hown, hts⟩, hr, hlocks, hG, hN⟩ := id C
  unfold wJ9_coder_b14 at hw
  obtain ⟨hz, hw⟩ := hw
  exact x_endz C hR hS hz ⟨_, rfl, ⟨rfl, rfl, hw⟩⟩ (Nat.le_refl _) (Nat.le_refl _) dJ9_coder_14
end
def wJ9_coder (post : Int32 → Prop) (p0 : Nat) (h : x_H) : Prop :=
  ((1 : Int32) = 0 → wJ9_coder_b14 post p0 h 1) ∧ (¬ (1 : Int32) = 0 → ∃ y6 : Int32, x_f h p0 9 1 (.int y6) ∧ wJ9_coder_b14 post p0 h y6)
theorem kJ9_coder (l : Launch) (D : va_G) (N0 : Nat) (gp : Nat → Nat) (X : x_X) (p0 : Nat) (h : x_H) (post : Int32 → Prop) (hw : wJ9_coder post p0 h ) : Met l yJ9_coder (ws_ yJ9_coder cJ9_coder 1 (some .byte)) rmJ9_coder (x_Pc D N0 gp X h [.ref p0]) (x_Qc D N0 (x_Vi (qPi X h post))) 0 0 (x_A N0) := by
  refine x_start (lv := [(0, .ref p0)]) (by decide) rfl (Nat.le_of_ble_eq_true rfl) rfl ?_
  intro p e s m below meth c C hR ls hl
  have hS : va_S (x_A N0) s.heap s.heap [] := va_S.rf
  obtain ⟨⟨hx, hb, hml, hown, hts⟩, hr, hlocks, hG, hN⟩ := id C
  unfold wJ9_coder at hw
  refine x_gets C hS hG.2.2.1.2.2.1 q638 dJ9_coder_0 ?_
  refine lv_if_eq (tgt := 13) hx hb dJ9_coder_3 (by decide) (fun c4 => ?_) (fun c4 => ?_)
  · replace hw := hw.1 c4
    refine lv_iconst (v := 1) hx hb dJ9_coder_13 (by decide) ?_
    exact kJ9_coder_b14 C hR hS (lv_sub hl [] rfl) hw
  · replace hw := hw.2 c4
    refine lv_aload_n hx hb dJ9_coder_6 rfl (lv_at hl 0 rfl) ?_
    obtain ⟨y6, hf5, hw⟩ := hw
    refine x_getH (ci := 9) (Cn := RJ9) (T := TJ9) (N := 4) (k := 1) C hR hf5 rfl in_J9 (by decide) q914 (fun _ h9 => h9) dJ9_coder_7 ?_
    refine lv_goto (tgt := 14) hx hb dJ9_coder_10 (by decide) ?_
    exact kJ9_coder_b14 C hR hS (lv_sub hl [] rfl) hw
/-- java/lang/String.length()I -/
abbrev rmJ9_length : Room := { frames := 1, cells := 0, slots := 0, locals := 20 }
section
variable {p : Program} {l : Launch} {e : Env} {s : State} {m : MethodId} {args : Array Value} {below : List Frame} {meth : Method} {c : Code} {D : va_G} {N0 : Nat} {gp : Nat → Nat} {X : x_X}
end
def wJ9_length (post : Int32 → Prop) (p0 : Nat) (h : x_H) : Prop :=
  ∃ v13 : Option Nat, x_f h p0 9 0 (va_rf v13) ∧ ∃ a14 : Nat, v13 = some a14 ∧ ∃ (t15 : Nat) (ty16 : FieldType) (x17 : vp_A), h a14 = some (t15, .inl (ty16, x17)) ∧ ∃ (t20 : Nat) (fs21 : List Value), h p0 = some (t20, .inr (9, fs21)) ∧ wJ9_coder (fun r19 => post ((nI x17.1) >>> (r19 &&& 31)) ) p0 h
theorem kJ9_length (l : Launch) (D : va_G) (N0 : Nat) (gp : Nat → Nat) (X : x_X) (p0 : Nat) (h : x_H) (post : Int32 → Prop) (hw : wJ9_length post p0 h ) : Met l yJ9_length (ws_ yJ9_length cJ9_length 1 (some .int)) rmJ9_length (x_Pc D N0 gp X h [.ref p0]) (x_Qc D N0 (x_Vi (qPi X h post))) 0 0 (x_A N0) := by
  refine x_start (lv := [(0, .ref p0)]) (by decide) rfl (Nat.le_of_ble_eq_true rfl) rfl ?_
  intro p e s m below meth c C hR ls hl
  have hS : va_S (x_A N0) s.heap s.heap [] := va_S.rf
  obtain ⟨⟨hx, hb, hml, hown, hts⟩, hr, hlocks, hG, hN⟩ := id C
  unfold wJ9_length at hw
  refine lv_aload_n hx hb dJ9_length_0 rfl (lv_at hl 0 rfl) ?_
  obtain ⟨v13, hf12, hw⟩ := hw
  refine x_getH (ci := 9) (Cn := RJ9) (T := TJ9) (N := 4) (k := 0) C hR hf12 rfl in_J9 (by decide) q913 (fun _ h9 => h9) dJ9_length_1 ?_
  obtain ⟨a14, ea14, hw⟩ := hw
  rw [ea14]
  obtain ⟨t15, ty16, x17, he18, hw⟩ := hw
  refine x_alen C (hR.rdH he18) dJ9_length_4 ?_
  refine lv_aload_n hx hb dJ9_length_5 rfl (lv_at hl 0 rfl) ?_
  obtain ⟨t20, fs21, he22, hw⟩ := hw
  refine x_calli0 (x_runV (n := 0) (As := []) C hR hS (kJ9_coder l D N0 gp _ p0 h _ hw) (lw_V q786 q787 q788 q99 q789) rfl rfl (by decide +kernel) ⟨Nat.le_of_ble_eq_true rfl, Nat.le_of_ble_eq_true rfl⟩ (x_recv C (hR.rdH he22) rfl) rfl hl.1 rfl (Nat.le_of_ble_eq_true rfl) dJ9_length_6 ⟨Nat.le_refl _, Nat.le_refl _⟩) hS (fun r19 X1 h1 H locs hq hR hS => ?_)
  clear hw
  obtain ⟨e1, e2, hw⟩ := hq
  rw [e1, e2] at hR
  refine lv_ishr hx hb dJ9_length_9 ?_
  exact x_endi C hR hS ⟨_, rfl, ⟨rfl, rfl, hw⟩⟩ (Nat.le_refl _) (Nat.le_refl _) dJ9_length_10
/-- java/lang/String.checkIndex(II)V -/
abbrev rmJ9_checkIndex : Room := { frames := 1, cells := 0, slots := 0, locals := 22 }
section
variable {p : Program} {l : Launch} {e : Env} {s : State} {m : MethodId} {args : Array Value} {below : List Frame} {meth : Method} {c : Code} {D : va_G} {N0 : Nat} {gp : Nat → Nat} {X : x_X}
end
def wJ9_checkIndex (post : Prop) (gp : Nat → Nat) (p0 : Int32) (p1 : Int32) (h : x_H) : Prop :=
  wJ12_checkIndex (fun r2 => post) p0 p1 (x_fm gp)
theorem kJ9_checkIndex (l : Launch) (D : va_G) (N0 : Nat) (gp : Nat → Nat) (X : x_X) (p0 : Int32) (p1 : Int32) (h : x_H) (post : Prop) (hw : wJ9_checkIndex post gp p0 p1 h ) : Met l yJ9_checkIndex (ws_ yJ9_checkIndex cJ9_checkIndex 2 none) rmJ9_checkIndex (x_Pc D N0 gp X h [.int p0, .int p1]) (x_Qc D N0 (x_Vv (qPv X h post))) 0 0 (x_A N0) := by
  refine x_start (lv := [(0, .int p0), (1, .int p1)]) (by decide) rfl (Nat.le_of_ble_eq_true rfl) rfl ?_
  intro p e s m below meth c C hR ls hl
  have hS : va_S (x_A N0) s.heap s.heap [] := va_S.rf
  obtain ⟨⟨hx, hb, hml, hown, hts⟩, hr, hlocks, hG, hN⟩ := id C
  unfold wJ9_checkIndex at hw
  refine lv_iload_n hx hb dJ9_checkIndex_0 rfl (lv_at hl 0 rfl) ?_
  refine lv_iload_n hx hb dJ9_checkIndex_1 rfl (lv_at hl 1 rfl) ?_
  refine x_gets C hS hG.2.2.1.2.2.2.2.2 q768 dJ9_checkIndex_2 ?_
  cases hfm : x_fm gp with
  | none =>
    rw [hfm] at hw
    refine x_calli0 (x_runS (n := 3) (As := [.int p0, .int p1, .null]) C hR hS (kJ12_checkIndex l D N0 gp _ _ p0 p1 none _ hw) (lw_S q948 q370 q103 q371) rfl rfl (by decide +kernel) ⟨Nat.le_of_ble_eq_true rfl, Nat.le_of_ble_eq_true rfl⟩ rfl hl.1 rfl (Nat.le_of_ble_eq_true rfl) dJ9_checkIndex_5 ⟨Nat.le_refl _, Nat.le_refl _⟩) hS (fun r2 X1 h1 H locs hq hR hS => ?_)
    clear hw
    obtain ⟨e1, e2, hw⟩ := hq
    rw [e1, e2] at hR
    refine lv_pop hx hb dJ9_checkIndex_8 rfl ?_
    exact x_endv C hR hS ⟨rfl, ⟨rfl, rfl, hw⟩⟩ (Nat.le_refl _) (Nat.le_refl _) dJ9_checkIndex_9
  | some a3 =>
    rw [hfm] at hw
    refine x_calli0 (x_runS (n := 3) (As := [.int p0, .int p1, .ref a3]) C hR hS (kJ12_checkIndex l D N0 gp _ _ p0 p1 (some a3) _ hw) (lw_S q948 q370 q103 q371) rfl rfl (by decide +kernel) ⟨Nat.le_of_ble_eq_true rfl, Nat.le_of_ble_eq_true rfl⟩ rfl hl.1 rfl (Nat.le_of_ble_eq_true rfl) dJ9_checkIndex_5 ⟨Nat.le_refl _, Nat.le_refl _⟩) hS (fun r2 X1 h1 H locs hq hR hS => ?_)
    clear hw
    obtain ⟨e1, e2, hw⟩ := hq
    rw [e1, e2] at hR
    refine lv_pop hx hb dJ9_checkIndex_8 rfl ?_
    exact x_endv C hR hS ⟨rfl, ⟨rfl, rfl, hw⟩⟩ (Nat.le_refl _) (Nat.le_refl _) dJ9_checkIndex_9
/-- java/lang/StringLatin1.charAt([BI)C -/
abbrev rmJ17_charAt : Room := { frames := 2, cells := 0, slots := 0, locals := 43 }
section
variable {p : Program} {l : Launch} {e : Env} {s : State} {m : MethodId} {args : Array Value} {below : List Frame} {meth : Method} {c : Code} {D : va_G} {N0 : Nat} {gp : Nat → Nat} {X : x_X}
end
def wJ17_charAt (post : Int32 → Prop) (gp : Nat → Nat) (p0 : Nat) (p1 : Int32) (h : x_H) : Prop :=
  ∃ (t10 : Nat) (ty11 : FieldType) (x12 : vp_A), h p0 = some (t10, .inl (ty11, x12)) ∧ wJ9_checkIndex (∃ (t14 n15 : Nat) (f16 : Nat → Int32), h p0 = some (t14, .inl (.byte, (n15, .inl f16))) ∧ vp_in p1 n15 ∧ narrow .char (.int ((((f16 p1.toNatClampNeg) &&& 255).toUInt32 % 65536).toInt32)) = .int ((((f16 p1.toNatClampNeg) &&& 255).toUInt32 % 65536).toInt32) ∧ post ((((f16 p1.toNatClampNeg) &&& 255).toUInt32 % 65536).toInt32) ) gp p1 (nI x12.1) h
theorem kJ17_charAt (l : Launch) (D : va_G) (N0 : Nat) (gp : Nat → Nat) (X : x_X) (p0 : Nat) (p1 : Int32) (h : x_H) (post : Int32 → Prop) (hw : wJ17_charAt post gp p0 p1 h ) : Met l yJ17_charAt (ws_ yJ17_charAt cJ17_charAt 2 (some .char)) rmJ17_charAt (x_Pc D N0 gp X h [.ref p0, .int p1]) (x_Qc D N0 (x_Vi (qPi X h post))) 0 0 (x_A N0) := by
  refine x_start (lv := [(0, .ref p0), (1, .int p1)]) (by decide) rfl (Nat.le_of_ble_eq_true rfl) rfl ?_
  intro p e s m below meth c C hR ls hl
  have hS : va_S (x_A N0) s.heap s.heap [] := va_S.rf
  obtain ⟨⟨hx, hb, hml, hown, hts⟩, hr, hlocks, hG, hN⟩ := id C
  unfold wJ17_charAt at hw
  refine lv_iload_n hx hb dJ17_charAt_0 rfl (lv_at hl 1 rfl) ?_
  refine lv_aload_n hx hb dJ17_charAt_1 rfl (lv_at hl 0 rfl) ?_
  obtain ⟨t10, ty11, x12, he13, hw⟩ := hw
  refine x_alen C (hR.rdH he13) dJ17_charAt_2 ?_
  refine x_callv0 (x_runS (n := 2) (As := [.int p1, .int (nI x12.1)]) C hR hS (kJ9_checkIndex l D N0 gp _ p1 (nI x12.1) h _ hw) (lw_S q1005 q946 q99 q947) rfl rfl (by decide +kernel) ⟨Nat.le_of_ble_eq_true rfl, Nat.le_of_ble_eq_true rfl⟩ rfl hl.1 rfl (Nat.le_of_ble_eq_true rfl) dJ17_charAt_3 ⟨Nat.le_refl _, Nat.le_refl _⟩) hS (fun X1 h1 H locs hq hR hS => ?_)
  clear hw
  obtain ⟨e1, e2, hw⟩ := hq
  rw [e1, e2] at hR
  refine lv_aload_n hx hb dJ17_charAt_6 rfl (lv_at hl 0 rfl) ?_
  refine lv_iload_n hx hb dJ17_charAt_7 rfl (lv_at hl 1 rfl) ?_
  obtain ⟨t14, n15, f16, he17, b18, hw⟩ := hw
  refine x_bald (n := n15) (f := f16) C (hR.rdH he17) b18 dJ17_charAt_8 ?_
  refine lv_sipush (v := 255) hx hb dJ17_charAt_9 (by decide) ?_
  refine lv_iand hx hb dJ17_charAt_12 ?_
  refine lv_i2c hx hb dJ17_charAt_13 rfl ?_
  obtain ⟨hz, hw⟩ := hw
  exact x_endz C hR hS hz ⟨_, rfl, ⟨rfl, rfl, hw⟩⟩ (Nat.le_refl _) (Nat.le_refl _) dJ17_charAt_14
/-- java/lang/String.charAt(I)C -/
abbrev rmJ9_charAt : Room := { frames := 3, cells := 0, slots := 0, locals := 64 }
section
variable {p : Program} {l : Launch} {e : Env} {s : State} {m : MethodId} {args : Array Value} {below : List Frame} {meth : Method} {c : Code} {D : va_G} {N0 : Nat} {gp : Nat → Nat} {X : x_X}
end
def wJ9_charAt (post : Int32 → Prop) (gp : Nat → Nat) (p0 : Nat) (p1 : Int32) (h : x_H) : Prop :=
  ∃ (t13 : Nat) (fs14 : List Value), h p0 = some (t13, .inr (9, fs14)) ∧ wJ9_isLatin1 (fun r12 => (r12 = 0 → ∃ v18 : Option Nat, x_f h p0 9 0 (va_rf v18) ∧ False) ∧ (¬ r12 = 0 → ∃ v20 : Option Nat, x_f h p0 9 0 (va_rf v20) ∧ ∃ a21 : Nat, v20 = some a21 ∧ wJ17_charAt (fun r22 => narrow .char (.int r22) = .int r22 ∧ post r22 ) gp a21 p1 h)) p0 h
theorem kJ9_charAt (l : Launch) (D : va_G) (N0 : Nat) (gp : Nat → Nat) (X : x_X) (p0 : Nat) (p1 : Int32) (h : x_H) (post : Int32 → Prop) (hw : wJ9_charAt post gp p0 p1 h ) : Met l yJ9_charAt (ws_ yJ9_charAt cJ9_charAt 2 (some .char)) rmJ9_charAt (x_Pc D N0 gp X h [.ref p0, .int p1]) (x_Qc D N0 (x_Vi (qPi X h post))) 0 0 (x_A N0) := by
  refine x_start (lv := [(0, .ref p0), (1, .int p1)]) (by decide) rfl (Nat.le_of_ble_eq_true rfl) rfl ?_
  intro p e s m below meth c C hR ls hl
  have hS : va_S (x_A N0) s.heap s.heap [] := va_S.rf
  obtain ⟨⟨hx, hb, hml, hown, hts⟩, hr, hlocks, hG, hN⟩ := id C
  unfold wJ9_charAt at hw
  refine lv_aload_n hx hb dJ9_charAt_0 rfl (lv_at hl 0 rfl) ?_
  obtain ⟨t13, fs14, he15, hw⟩ := hw
  refine x_calli0 (x_runV (n := 0) (As := []) C hR hS (kJ9_isLatin1 l D N0 gp _ p0 h _ hw) (lw_V q998 q999 q1000 q99 q1001) rfl rfl (by decide +kernel) ⟨Nat.le_of_ble_eq_true rfl, Nat.le_of_ble_eq_true rfl⟩ (x_recv C (hR.rdH he15) rfl) rfl hl.1 rfl (Nat.le_of_ble_eq_true rfl) dJ9_charAt_1 ⟨Nat.le_refl _, Nat.le_refl _⟩) hS (fun r12 X1 h1 H locs hq hR hS => ?_)
  clear hw
  obtain ⟨e1, e2, hw⟩ := hq
  rw [e1, e2] at hR
  refine lv_if_eq (tgt := 16) hx hb dJ9_charAt_4 (by decide) (fun c16 => ?_) (fun c16 => ?_)
  · replace hw := hw.1 c16
    refine lv_aload_n hx hb dJ9_charAt_16 rfl (lv_at hl 0 rfl) ?_
    obtain ⟨v18, hf17, hw⟩ := hw
    refine x_getH (ci := 9) (Cn := RJ9) (T := TJ9) (N := 4) (k := 0) C hR hf17 rfl in_J9 (by decide) q913 (fun _ h9 => h9) dJ9_charAt_17 ?_
    refine lv_iload_n hx hb dJ9_charAt_20 rfl (lv_at hl 1 rfl) ?_
    exact False.elim hw
  · replace hw := hw.2 c16
    refine lv_aload_n hx hb dJ9_charAt_7 rfl (lv_at hl 0 rfl) ?_
    obtain ⟨v20, hf19, hw⟩ := hw
    refine x_getH (ci := 9) (Cn := RJ9) (T := TJ9) (N := 4) (k := 0) C hR hf19 rfl in_J9 (by decide) q913 (fun _ h9 => h9) dJ9_charAt_8 ?_
    refine lv_iload_n hx hb dJ9_charAt_11 rfl (lv_at hl 1 rfl) ?_
    obtain ⟨a21, ea21, hw⟩ := hw
    rw [ea21]
    refine x_calli0 (x_runS (n := 2) (As := [.ref a21, .int p1]) C hR hS (kJ17_charAt l D N0 gp _ a21 p1 h _ hw) (lw_S q1002 q1003 q109 q1004) rfl rfl (by decide +kernel) ⟨Nat.le_of_ble_eq_true rfl, Nat.le_of_ble_eq_true rfl⟩ rfl hl.1 rfl (Nat.le_of_ble_eq_true rfl) dJ9_charAt_12 ⟨Nat.le_refl _, Nat.le_refl _⟩) hS (fun r22 X1 h1 H locs hq hR hS => ?_)
    clear hw
    obtain ⟨e1, e2, hw⟩ := hq
    rw [e1, e2] at hR
    obtain ⟨hz, hw⟩ := hw
    exact x_endz C hR hS hz ⟨_, rfl, ⟨rfl, rfl, hw⟩⟩ (Nat.le_refl _) (Nat.le_refl _) dJ9_charAt_15
/-- java/lang/StringLatin1.equals([B[B)Z -/
abbrev rmJ17_equals : Room := { frames := 0, cells := 0, slots := 0, locals := 0 }
section
variable {p : Program} {l : Launch} {e : Env} {s : State} {m : MethodId} {args : Array Value} {below : List Frame} {meth : Method} {c : Code} {D : va_G} {N0 : Nat} {gp : Nat → Nat} {X : x_X}
def wJ17_equals_b32 (post : Int32 → Prop) (p0 : Nat) (p1 : Nat) (h : x_H) : Prop :=
  post 1 
theorem kJ17_equals_b32 {post : Int32 → Prop} {p0 : Nat} {p1 : Nat} {h : x_H} (C : x_C p s m args meth c cJ17_equals 3 (some .boolean) RJ17 D N0 gp) {H : Heap} {locs : List Loc} {ls : Array Slot} (hR : x_R D s N0 X h H) (hS : va_S (x_A N0) s.heap H locs) (hl : lv_has ls 3 []) (hw : wJ17_equals_b32 post p0 p1 h ) : W p l e rmJ17_equals s m args below meth c H locs 0 0 (MQ below (x_Qc D N0 (x_Vi (qPi X h post))) args s 0 0 (x_A N0)) (F0 m 32 ls []) := by
  obtain ⟨⟨hx, hb, hml, hown, hts⟩, hr, hlocks, hG, hN⟩ := id C
  unfold wJ17_equals_b32 at hw
  refine lv_iconst (v := 1) hx hb dJ17_equals_32 (by decide) ?_
  exact x_endz C hR hS rfl ⟨_, rfl, ⟨rfl, rfl, hw⟩⟩ (Nat.le_refl _) (Nat.le_refl _) dJ17_equals_33
def tJ17_equals_b9 (post : Int32 → Prop) (K9 : Int32 → Prop) (p0 : Nat) (p1 : Nat) (h : x_H) (x2 : Int32) : Prop :=
  ∃ (t37 : Nat) (ty38 : FieldType) (x39 : vp_A), h p0 = some (t37, .inl (ty38, x39)) ∧ ((nI x39.1) ≤ x2 → wJ17_equals_b32 post p0 p1 h ) ∧ (¬ (nI x39.1) ≤ x2 → ∃ (t42 n43 : Nat) (f44 : Nat → Int32), h p0 = some (t42, .inl (.byte, (n43, .inl f44))) ∧ vp_in x2 n43 ∧ ∃ (t47 n48 : Nat) (f49 : Nat → Int32), h p1 = some (t47, .inl (.byte, (n48, .inl f49))) ∧ vp_in x2 n48 ∧ ((f44 x2.toNatClampNeg) = (f49 x2.toNatClampNeg) → K9 (x2 + 1)) ∧ (¬ (f44 x2.toNatClampNeg) = (f49 x2.toNatClampNeg) → post 0 ))
def wJ17_equals_b9 (post : Int32 → Prop) (p0 : Nat) (p1 : Nat) (h : x_H) : Nat → Int32 → Prop
  | 0 => fun _ => False
  | n + 1 => fun x2 => tJ17_equals_b9 post (wJ17_equals_b9 post p0 p1 h n) p0 p1 h x2
theorem kJ17_equals_b9 {post : Int32 → Prop} {p0 : Nat} {p1 : Nat} {h : x_H} (C : x_C p s m args meth c cJ17_equals 3 (some .boolean) RJ17 D N0 gp) : ∀ (nn : Nat) (x2 : Int32) (H : Heap) (locs : List Loc) (ls : Array Slot), x_R D s N0 X h H → va_S (x_A N0) s.heap H locs → lv_has ls 3 [(0, .ref p0), (1, .ref p1), (2, .int x2)] → wJ17_equals_b9 post p0 p1 h nn x2 → W p l e rmJ17_equals s m args below meth c H locs 0 0 (MQ below (x_Qc D N0 (x_Vi (qPi X h post))) args s 0 0 (x_A N0)) (F0 m 9 ls []) := by
  obtain ⟨⟨hx, hb, hml, hown, hts⟩, hr, hlocks, hG, hN⟩ := id C
  intro nn
  induction nn with
  | zero =>
    intro x2 H locs ls hR hS hl hw
    exact False.elim hw
  | succ nn ih =>
    intro x2 H locs ls hR hS hl hw
    have hK9 := ih
    replace hw : tJ17_equals_b9 post (wJ17_equals_b9 post p0 p1 h nn) p0 p1 h x2 := hw
    unfold tJ17_equals_b9 at hw
    refine lv_iload_n hx hb dJ17_equals_9 rfl (lv_at hl 2 rfl) ?_
    refine lv_aload_n hx hb dJ17_equals_10 rfl (lv_at hl 0 rfl) ?_
    obtain ⟨t37, ty38, x39, he40, hw⟩ := hw
    refine x_alen C (hR.rdH he40) dJ17_equals_11 ?_
    refine lv_icmp_ge (tgt := 32) hx hb dJ17_equals_12 (by decide) (fun c41 => ?_) (fun c41 => ?_)
    · replace hw := hw.1 c41
      exact kJ17_equals_b32 C hR hS (lv_sub hl [] rfl) hw
    · replace hw := hw.2 c41
      refine lv_aload_n hx hb dJ17_equals_15 rfl (lv_at hl 0 rfl) ?_
      refine lv_iload_n hx hb dJ17_equals_16 rfl (lv_at hl 2 rfl) ?_
      obtain ⟨t42, n43, f44, he45, b46, hw⟩ := hw
      refine x_bald (n := n43) (f := f44) C (hR.rdH he45) b46 dJ17_equals_17 ?_
      refine lv_aload_n hx hb dJ17_equals_18 rfl (lv_at hl 1 rfl) ?_
      refine lv_iload_n hx hb dJ17_equals_19 rfl (lv_at hl 2 rfl) ?_
      obtain ⟨t47, n48, f49, he50, b51, hw⟩ := hw
      refine x_bald (n := n48) (f := f49) C (hR.rdH he50) b51 dJ17_equals_20 ?_
      refine lv_icmp_eq (tgt := 26) hx hb dJ17_equals_21 (by decide) (fun c52 => ?_) (fun c52 => ?_)
      · replace hw := hw.1 c52
        refine lv_iinc (v := x2 + 1) (lv' := [(2, .int (x2 + 1)), (0, .ref p0), (1, .ref p1)]) hx hb dJ17_equals_26 hl (k := 2) rfl (x_inc 1 1 (by decide)) (by decide) rfl (fun ls hl => ?_)
        refine lv_goto (tgt := 9) hx hb dJ17_equals_29 (by decide) ?_
        exact hK9 _ _ _ _ hR hS (lv_sub hl [1, 2, 0] rfl) hw
      · replace hw := hw.2 c52
        refine lv_iconst (v := 0) hx hb dJ17_equals_24 (by decide) ?_
        exact x_endz C hR hS rfl ⟨_, rfl, ⟨rfl, rfl, hw⟩⟩ (Nat.le_refl _) (Nat.le_refl _) dJ17_equals_25
end
def wJ17_equals (post : Int32 → Prop) (p0 : Nat) (p1 : Nat) (h : x_H) : Prop :=
  ∃ (t27 : Nat) (ty28 : FieldType) (x29 : vp_A), h p0 = some (t27, .inl (ty28, x29)) ∧ ∃ (t31 : Nat) (ty32 : FieldType) (x33 : vp_A), h p1 = some (t31, .inl (ty32, x33)) ∧ ((nI x29.1) = (nI x33.1) → ∃ n36 : Nat, wJ17_equals_b9 post p0 p1 h n36 0) ∧ (¬ (nI x29.1) = (nI x33.1) → post 0 )
theorem kJ17_equals (l : Launch) (D : va_G) (N0 : Nat) (gp : Nat → Nat) (X : x_X) (p0 : Nat) (p1 : Nat) (h : x_H) (post : Int32 → Prop) (hw : wJ17_equals post p0 p1 h ) : Met l yJ17_equals (ws_ yJ17_equals cJ17_equals 3 (some .boolean)) rmJ17_equals (x_Pc D N0 gp X h [.ref p0, .ref p1]) (x_Qc D N0 (x_Vi (qPi X h post))) 0 0 (x_A N0) := by
  refine x_start (lv := [(0, .ref p0), (1, .ref p1)]) (by decide) rfl (Nat.le_of_ble_eq_true rfl) rfl ?_
  intro p e s m below meth c C hR ls hl
  have hS : va_S (x_A N0) s.heap s.heap [] := va_S.rf
  obtain ⟨⟨hx, hb, hml, hown, hts⟩, hr, hlocks, hG, hN⟩ := id C
  unfold wJ17_equals at hw
  refine lv_aload_n hx hb dJ17_equals_0 rfl (lv_at hl 0 rfl) ?_
  obtain ⟨t27, ty28, x29, he30, hw⟩ := hw
  refine x_alen C (hR.rdH he30) dJ17_equals_1 ?_
  refine lv_aload_n hx hb dJ17_equals_2 rfl (lv_at hl 1 rfl) ?_
  obtain ⟨t31, ty32, x33, he34, hw⟩ := hw
  refine x_alen C (hR.rdH he34) dJ17_equals_3 ?_
  refine lv_icmp_ne (tgt := 34) hx hb dJ17_equals_4 (by decide) (fun c35 => ?_) (fun c35 => ?_)
  · replace hw := hw.2 c35
    refine lv_iconst (v := 0) hx hb dJ17_equals_34 (by decide) ?_
    exact x_endz C hR hS rfl ⟨_, rfl, ⟨rfl, rfl, hw⟩⟩ (Nat.le_refl _) (Nat.le_refl _) dJ17_equals_35
  · replace hw := hw.1 c35
    refine lv_iconst (v := 0) hx hb dJ17_equals_7 (by decide) ?_
    refine lv_istore_n (lv' := [(2, .int 0), (0, .ref p0), (1, .ref p1)]) hx hb dJ17_equals_8 rfl hl (by decide) rfl (fun ls hl => ?_)
    obtain ⟨n36, hw⟩ := hw
    exact kJ17_equals_b9 C n36 _ _ _ _ hR hS (lv_sub hl [1, 2, 0] rfl) hw
/-- java/lang/String.equals(Ljava/lang/Object;)Z -/
abbrev rmJ9_equals : Room := { frames := 1, cells := 0, slots := 0, locals := 22 }
section
variable {p : Program} {l : Launch} {e : Env} {s : State} {m : MethodId} {args : Array Value} {below : List Frame} {meth : Method} {c : Code} {D : va_G} {N0 : Nat} {gp : Nat → Nat} {X : x_X}
def wJ9_equals_b55 (post : Int32 → Prop) (p0 : Nat) (p1 : Nat) (h : x_H) (s0 : Int32) : Prop :=
  narrow .boolean (.int s0) = .int s0 ∧ post s0 
theorem kJ9_equals_b55 {post : Int32 → Prop} {p0 : Nat} {p1 : Nat} {h : x_H} (C : x_C p s m args meth c cJ9_equals 3 (some .boolean) RJ9 D N0 gp) {s0 : Int32} {H : Heap} {locs : List Loc} {ls : Array Slot} (hR : x_R D s N0 X h H) (hS : va_S (x_A N0) s.heap H locs) (hl : lv_has ls 3 []) (hw : wJ9_equals_b55 post p0 p1 h s0) : W p l e rmJ9_equals s m args below meth c H locs 0 0 (MQ below (x_Qc D N0 (x_Vi (qPi X h post))) args s 0 0 (x_A N0)) (F0 m 55 ls [.int s0]) := by
  obtain ⟨⟨hx, hb, hml, hown, hts⟩, hr, hlocks, hG, hN⟩ := id C
  unfold wJ9_equals_b55 at hw
  obtain ⟨hz, hw⟩ := hw
  exact x_endz C hR hS hz ⟨_, rfl, ⟨rfl, rfl, hw⟩⟩ (Nat.le_refl _) (Nat.le_refl _) dJ9_equals_55
def wJ9_equals_b54 (post : Int32 → Prop) (p0 : Nat) (p1 : Nat) (h : x_H) : Prop :=
  wJ9_equals_b55 post p0 p1 h 0
theorem kJ9_equals_b54 {post : Int32 → Prop} {p0 : Nat} {p1 : Nat} {h : x_H} (C : x_C p s m args meth c cJ9_equals 3 (some .boolean) RJ9 D N0 gp) {H : Heap} {locs : List Loc} {ls : Array Slot} (hR : x_R D s N0 X h H) (hS : va_S (x_A N0) s.heap H locs) (hl : lv_has ls 3 []) (hw : wJ9_equals_b54 post p0 p1 h ) : W p l e rmJ9_equals s m args below meth c H locs 0 0 (MQ below (x_Qc D N0 (x_Vi (qPi X h post))) args s 0 0 (x_A N0)) (F0 m 54 ls []) := by
  obtain ⟨⟨hx, hb, hml, hown, hts⟩, hr, hlocks, hG, hN⟩ := id C
  unfold wJ9_equals_b54 at hw
  refine lv_iconst (v := 0) hx hb dJ9_equals_54 (by decide) ?_
  exact kJ9_equals_b55 C hR hS (lv_sub hl [] rfl) hw
def wJ9_equals_b36 (post : Int32 → Prop) (p0 : Nat) (p1 : Nat) (h : x_H) : Prop :=
  ∃ v38 : Option Nat, x_f h p0 9 0 (va_rf v38) ∧ ∃ v40 : Option Nat, x_f h p1 9 0 (va_rf v40) ∧ ∃ a41 : Nat, v38 = some a41 ∧ ∃ a42 : Nat, v40 = some a42 ∧ wJ17_equals (fun r43 => (r43 = 0 → wJ9_equals_b54 post p0 p1 h ) ∧ (¬ r43 = 0 → wJ9_equals_b55 post p0 p1 h 1)) a41 a42 h
theorem kJ9_equals_b36 {post : Int32 → Prop} {p0 : Nat} {p1 : Nat} {h : x_H} (C : x_C p s m args meth c cJ9_equals 3 (some .boolean) RJ9 D N0 gp) {H : Heap} {locs : List Loc} {ls : Array Slot} (hR : x_R D s N0 X h H) (hS : va_S (x_A N0) s.heap H locs) (hl : lv_has ls 3 [(0, .ref p0), (2, .ref p1)]) (hw : wJ9_equals_b36 post p0 p1 h ) : W p l e rmJ9_equals s m args below meth c H locs 0 0 (MQ below (x_Qc D N0 (x_Vi (qPi X h post))) args s 0 0 (x_A N0)) (F0 m 36 ls []) := by
  obtain ⟨⟨hx, hb, hml, hown, hts⟩, hr, hlocks, hG, hN⟩ := id C
  unfold wJ9_equals_b36 at hw
  refine lv_aload_n hx hb dJ9_equals_36 rfl (lv_at hl 0 rfl) ?_
  obtain ⟨v38, hf37, hw⟩ := hw
  refine x_getH (ci := 9) (Cn := RJ9) (T := TJ9) (N := 4) (k := 0) C hR hf37 rfl in_J9 (by decide) q913 (fun _ h9 => h9) dJ9_equals_37 ?_
  refine lv_aload_n hx hb dJ9_equals_40 rfl (lv_at hl 1 rfl) ?_
  obtain ⟨v40, hf39, hw⟩ := hw
  refine x_getH (ci := 9) (Cn := RJ9) (T := TJ9) (N := 4) (k := 0) C hR hf39 rfl in_J9 (by decide) q913 (fun _ h9 => h9) dJ9_equals_41 ?_
  obtain ⟨a41, ea41, hw⟩ := hw
  rw [ea41]
  obtain ⟨a42, ea42, hw⟩ := hw
  rw [ea42]
  refine x_calli0 (x_runS (n := 2) (As := [.ref a41, .ref a42]) C hR hS (kJ17_equals l D N0 gp _ a41 a42 h _ hw) (lw_S q639 q640 q109 q641) rfl rfl (by decide +kernel) ⟨Nat.le_of_ble_eq_true rfl, Nat.le_of_ble_eq_true rfl⟩ rfl hl.1 rfl (Nat.le_of_ble_eq_true rfl) dJ9_equals_44 ⟨Nat.le_refl _, Nat.le_refl _⟩) hS (fun r43 X1 h1 H locs hq hR hS => ?_)
  clear hw
  obtain ⟨e1, e2, hw⟩ := hq
  rw [e1, e2] at hR
  refine lv_if_eq (tgt := 54) hx hb dJ9_equals_47 (by decide) (fun c44 => ?_) (fun c44 => ?_)
  · replace hw := hw.1 c44
    exact kJ9_equals_b54 C hR hS (lv_sub hl [] rfl) hw
  · replace hw := hw.2 c44
    refine lv_iconst (v := 1) hx hb dJ9_equals_50 (by decide) ?_
    refine lv_goto (tgt := 55) hx hb dJ9_equals_51 (by decide) ?_
    exact kJ9_equals_b55 C hR hS (lv_sub hl [] rfl) hw
end
def wJ9_equals (post : Int32 → Prop) (p0 : Nat) (p1 : Nat) (h : x_H) : Prop :=
  ((some p0) = (some p1) → post 1 ) ∧ (¬ (some p0) = (some p1) → ∃ (t24 : Nat) (fs25 : List Value), h p1 = some (t24, .inr (9, fs25)) ∧ ((1 : Int32) = 0 → wJ9_equals_b54 post p0 p1 h ) ∧ (¬ (1 : Int32) = 0 → ∃ (t28 : Nat) (fs29 : List Value), h p1 = some (t28, .inr (9, fs29)) ∧ ((1 : Int32) = 0 → wJ9_equals_b36 post p0 p1 h ) ∧ (¬ (1 : Int32) = 0 → ∃ y33 : Int32, x_f h p0 9 1 (.int y33) ∧ ∃ y35 : Int32, x_f h p1 9 1 (.int y35) ∧ (y33 = y35 → wJ9_equals_b36 post p0 p1 h ) ∧ (¬ y33 = y35 → wJ9_equals_b54 post p0 p1 h ))))
theorem kJ9_equals (l : Launch) (D : va_G) (N0 : Nat) (gp : Nat → Nat) (X : x_X) (p0 : Nat) (p1 : Nat) (h : x_H) (post : Int32 → Prop) (hw : wJ9_equals post p0 p1 h ) : Met l yJ9_equals (ws_ yJ9_equals cJ9_equals 3 (some .boolean)) rmJ9_equals (x_Pc D N0 gp X h [.ref p0, .ref p1]) (x_Qc D N0 (x_Vi (qPi X h post))) 0 0 (x_A N0) := by
  refine x_start (lv := [(0, .ref p0), (1, .ref p1)]) (by decide) rfl (Nat.le_of_ble_eq_true rfl) rfl ?_
  intro p e s m below meth c C hR ls hl
  have hS : va_S (x_A N0) s.heap s.heap [] := va_S.rf
  obtain ⟨⟨hx, hb, hml, hown, hts⟩, hr, hlocks, hG, hN⟩ := id C
  unfold wJ9_equals at hw
  refine lv_aload_n hx hb dJ9_equals_0 rfl (lv_at hl 0 rfl) ?_
  refine lv_aload_n hx hb dJ9_equals_1 rfl (lv_at hl 1 rfl) ?_
  refine lv_acmp_ne (rx := (some p0)) (ry := (some p1)) (tgt := 7) hx hb dJ9_equals_2 (by decide) (fun c23 => ?_) (fun c23 => ?_)
  · replace hw := hw.2 c23
    refine lv_aload_n hx hb dJ9_equals_7 rfl (lv_at hl 1 rfl) ?_
    obtain ⟨t24, fs25, he26, hw⟩ := hw
    refine x_instH (ci := 9) (Cn := RJ9) (T := TJ9) (N := 4) C hR he26 rfl q637 dJ9_equals_8 ?_
    refine lv_if_eq (tgt := 54) hx hb dJ9_equals_11 (by decide) (fun c27 => ?_) (fun c27 => ?_)
    · replace hw := hw.1 c27
      exact kJ9_equals_b54 C hR hS (lv_sub hl [] rfl) hw
    · replace hw := hw.2 c27
      refine lv_aload_n hx hb dJ9_equals_14 rfl (lv_at hl 1 rfl) ?_
      obtain ⟨t28, fs29, he30, hw⟩ := hw
      refine x_castH (ci := 9) (Cn := RJ9) (T := TJ9) (N := 4) C hR he30 rfl q637 dJ9_equals_15 ?_
      refine lv_astore_n (lv' := [(2, .ref p1), (0, .ref p0), (1, .ref p1)]) hx hb dJ9_equals_18 rfl hl (by decide) rfl (fun ls hl => ?_)
      refine x_gets C hS hG.2.2.1.2.2.1 q638 dJ9_equals_19 ?_
      refine lv_if_eq (tgt := 36) hx hb dJ9_equals_22 (by decide) (fun c31 => ?_) (fun c31 => ?_)
      · replace hw := hw.1 c31
        exact kJ9_equals_b36 C hR hS (lv_sub hl [1, 0] rfl) hw
      · replace hw := hw.2 c31
        refine lv_aload_n hx hb dJ9_equals_25 rfl (lv_at hl 1 rfl) ?_
        obtain ⟨y33, hf32, hw⟩ := hw
        refine x_getH (ci := 9) (Cn := RJ9) (T := TJ9) (N := 4) (k := 1) C hR hf32 rfl in_J9 (by decide) q914 (fun _ h9 => h9) dJ9_equals_26 ?_
        refine lv_aload_n hx hb dJ9_equals_29 rfl (lv_at hl 0 rfl) ?_
        obtain ⟨y35, hf34, hw⟩ := hw
        refine x_getH (ci := 9) (Cn := RJ9) (T := TJ9) (N := 4) (k := 1) C hR hf34 rfl in_J9 (by decide) q914 (fun _ h9 => h9) dJ9_equals_30 ?_
        refine lv_icmp_ne (tgt := 54) hx hb dJ9_equals_33 (by decide) (fun c36 => ?_) (fun c36 => ?_)
        · replace hw := hw.2 c36
          exact kJ9_equals_b54 C hR hS (lv_sub hl [] rfl) hw
        · replace hw := hw.1 c36
          exact kJ9_equals_b36 C hR hS (lv_sub hl [1, 0] rfl) hw
  · replace hw := hw.1 c23
    refine lv_iconst (v := 1) hx hb dJ9_equals_5 (by decide) ?_
    exact x_endz C hR hS rfl ⟨_, rfl, ⟨rfl, rfl, hw⟩⟩ (Nat.le_refl _) (Nat.le_refl _) dJ9_equals_6
