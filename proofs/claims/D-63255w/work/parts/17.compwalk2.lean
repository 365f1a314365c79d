/-! the walks of PageServer and its parts, printed by gen/walk.py -/
set_option maxHeartbeats 4000000
set_option maxRecDepth 100000
/-- PageServer$Entry.name()Ljava/lang/String; -/
abbrev rmX3_name : Room := { frames := 0, cells := 0, slots := 0, locals := 0 }
section
variable {p : Program} {l : Launch} {e : Env} {s : State} {m : MethodId} {args : Array Value} {below : List Frame} {meth : Method} {c : Code} {D : va_G} {N0 : Nat} {gp : Nat → Nat} {X : x_X}
end
def wX3_name (post : Option Nat → Prop) (p0 : Nat) (h : x_H) : Prop :=
  ∃ v4 : Option Nat, x_f h p0 2 0 (va_rf v4) ∧ post v4 
theorem kX3_name (l : Launch) (D : va_G) (N0 : Nat) (gp : Nat → Nat) (X : x_X) (p0 : Nat) (h : x_H) (post : Option Nat → Prop) (hw : wX3_name post p0 h ) : Met l yX3_name (ws_ yX3_name cX3_name 1 (some (.object "java/lang/String"))) rmX3_name (x_Pc D N0 gp X h [.ref p0]) (x_Qc D N0 (x_Va (qPa X h post))) 0 0 (x_A N0) := by
  refine x_start (lv := [(0, .ref p0)]) (by decide) rfl (Nat.le_of_ble_eq_true rfl) rfl ?_
  intro p e s m below meth c C hR ls hl
  have hS : va_S (x_A N0) s.heap s.heap [] := va_S.rf
  obtain ⟨⟨hx, hb, hml, hown, hts⟩, hr, hlocks, hG, hN⟩ := id C
  unfold wX3_name at hw
  refine lv_aload_n hx hb dX3_name_0 rfl (lv_at hl 0 rfl) ?_
  obtain ⟨v4, hf3, hw⟩ := hw
  refine x_getH (ci := 2) (Cn := RX3) (T := TX3) (N := 2) (k := 0) C hR hf3 rfl in_X3 (by decide) q168 (fun _ h9 => h9) dX3_name_1 ?_
  exact x_enda (v := v4) C (Or.inl ⟨_, rfl⟩) hR hS ⟨_, rfl, ⟨rfl, rfl, hw⟩⟩ (Nat.le_refl _) (Nat.le_refl _) dX3_name_4
/-- PageServer$Entry.<init>(Ljava/lang/String;Ljava/lang/String;)V -/
abbrev rmX3_init : Room := { frames := 2, cells := 0, slots := 0, locals := 32 }
section
variable {p : Program} {l : Launch} {e : Env} {s : State} {m : MethodId} {args : Array Value} {below : List Frame} {meth : Method} {c : Code} {D : va_G} {N0 : Nat} {gp : Nat → Nat} {X : x_X}
end
def wX3_init (post : x_H → Prop) (p0 : Nat) (p1 : Nat) (p2 : Nat) (h : x_H) : Prop :=
  wJ3_init (∃ (t13 : Nat) (fs14 : List Value), h p0 = some (t13, .inr (2, fs14)) ∧ t13 ≠ 1 ∧ 0 < fs14.length ∧ ∀ h18 : x_H, h18 = x_hs h p0 t13 (.inr (2, fs14.set 0 (.ref p1))) → ∃ (t19 : Nat) (fs20 : List Value), h18 p0 = some (t19, .inr (2, fs20)) ∧ t19 ≠ 1 ∧ 1 < fs20.length ∧ ∀ h24 : x_H, h24 = x_hs h18 p0 t19 (.inr (2, fs20.set 1 (.ref p2))) → post h24) p0 h
theorem kX3_init (l : Launch) (D : va_G) (N0 : Nat) (gp : Nat → Nat) (X : x_X) (p0 : Nat) (p1 : Nat) (p2 : Nat) (h : x_H) (post : x_H → Prop) (hw : wX3_init post p0 p1 p2 h) : Met l yX3_init (ws_ yX3_init cX3_init 3 none) rmX3_init (x_Pc D N0 gp X h [.ref p0, .ref p1, .ref p2]) (x_Qc D N0 (x_Vv (qJv X post))) 0 0 (x_A N0) := by
  refine x_startI (lv := [(0, .ref p0), (1, .ref p1), (2, .ref p2)]) (by decide) rfl (Nat.le_of_ble_eq_true rfl) rfl ?_
  intro p e s m below meth c C hin hR ls hl
  have hS : va_S (x_A N0) s.heap s.heap [] := va_S.rf
  obtain ⟨⟨hx, hb, hml, hown, hts⟩, hr, hlocks, hG, hN⟩ := id C
  unfold wX3_init at hw
  refine lv_aload_n hx hb dX3_init_0 rfl (lv_at hl 0 rfl) ?_
  refine x_callv0 (x_runI (n := 0) (As := []) (b := p0) C hR hS (kJ3_init l D N0 gp _ p0 h _ hw) q166 q90 q164 q165 rfl rfl rfl (by decide +kernel) ⟨Nat.le_of_ble_eq_true rfl, Nat.le_of_ble_eq_true rfl⟩ rfl hl.1 rfl (Nat.le_of_ble_eq_true rfl) dX3_init_1 ⟨Nat.le_refl _, Nat.le_refl _⟩) hS (fun X1 h1 H locs hq hR hS => ?_)
  clear hw
  obtain ⟨e1, e2, hw⟩ := hq
  rw [e1, e2] at hR
  refine lv_aload_n hx hb dX3_init_4 rfl (lv_at hl 0 rfl) ?_
  refine lv_aload_n hx hb dX3_init_5 rfl (lv_at hl 1 rfl) ?_
  obtain ⟨t13, fs14, he15, ht16, hl17, hw⟩ := hw
  refine x_putHF (ci := 2) (Cn := RX3) (T := TX3) (N := 2) (v := .ref p1) C hin hR hS he15 ht16 rfl in_X3 tyX3_ok nmX3 0 (by decide) q168 (fun _ h9 => h9) rfl rfl rfl rfl hl17 dX3_init_6 (fun H locs hR hS => ?_)
  obtain ⟨h18, eh18⟩ : ∃ z, z = x_hs h p0 t13 (.inr (2, fs14.set 0 (.ref p1))) := ⟨_, rfl⟩
  rw [← eh18] at hR
  replace hw := hw h18 eh18
  refine lv_aload_n hx hb dX3_init_9 rfl (lv_at hl 0 rfl) ?_
  refine lv_aload_n hx hb dX3_init_10 rfl (lv_at hl 2 rfl) ?_
  obtain ⟨t19, fs20, he21, ht22, hl23, hw⟩ := hw
  refine x_putHF (ci := 2) (Cn := RX3) (T := TX3) (N := 2) (v := .ref p2) C hin hR hS he21 ht22 rfl in_X3 tyX3_ok nmX3 1 (by decide) q169 (fun _ h9 => h9) rfl rfl rfl rfl hl23 dX3_init_11 (fun H locs hR hS => ?_)
  obtain ⟨h24, eh24⟩ : ∃ z, z = x_hs h18 p0 t19 (.inr (2, fs20.set 1 (.ref p2))) := ⟨_, rfl⟩
  rw [← eh24] at hR
  replace hw := hw h24 eh24
  exact x_endv C hR hS ⟨rfl, ⟨rfl, hw⟩⟩ (Nat.le_refl _) (Nat.le_refl _) dX3_init_14
/-- PageServer$Reader.literal(LPageServer$Table;I)LPageServer$Entry; -/
abbrev rmX4_literal (mc0 ms0 : Nat) : Room := { frames := 7, cells := mc0, slots := ms0, locals := 176 }
section
variable {p : Program} {l : Launch} {e : Env} {s : State} {m : MethodId} {args : Array Value} {below : List Frame} {meth : Method} {c : Code} {D : va_G} {N0 : Nat} {gp : Nat → Nat} {ad : Nat → Nat} {XF : x_X} {mc0 ms0 : Nat}
def wX4_literal_b62 (post : Option Nat → (Nat → Int32) → (Nat → Nat → Int32) → x_H → Prop) (gp : Nat → Nat) (ad : Nat → Nat) (p2 : Int32) (F : (Nat → Int32)) (M : (Nat → Nat → Int32)) (h : x_H) (mc : Nat) (ms : Nat) (x4 : Option Nat) (s0 : Option Nat) : Prop :=
  ∃ mc61 ms62 : Nat, 1 + mc61 ≤ mc ∧ 2 + ms62 ≤ ms ∧ ∀ q63 : Nat, h q63 = none → ∃ t64 : Nat, t64 ≠ 1 ∧ ∀ h67 : x_H, h67 = x_hs h q63 t64 (.inr (2, [.null, .null])) → ∃ a68 : Nat, x4 = some a68 ∧ ∃ a69 : Nat, s0 = some a69 ∧ wX3_init (fun h70 => post (some q63) F M h70) q63 a68 a69 h67
theorem kX4_literal_b62 {post : Option Nat → (Nat → Int32) → (Nat → Nat → Int32) → x_H → Prop} {p2 : Int32} (C : x_C p s m args meth c cX4_literal 6 (some (.object "PageServer$Entry")) RX4 D N0 gp) {F : (Nat → Int32)} {M : (Nat → Nat → Int32)} {h : x_H} {mc : Nat} {ms : Nat} {x4 : Option Nat} {s0 : Option Nat} {k n : Nat} {H : Heap} {locs : List Loc} {ls : Array Slot} (hR : x_R D s N0 (fixC ad F M ++ XF) h H) (hS : va_S (x_A N0) s.heap H locs) (hk : k + mc ≤ mc0) (hn : n + ms ≤ ms0) (hl : lv_has ls 6 [(4, va_rf x4)]) (hw : wX4_literal_b62 post gp ad p2 F M h mc ms x4 s0) : W p l e (rmX4_literal mc0 ms0) s m args below meth c H locs k n (MQ below (x_Qc D N0 (x_Va (qCa ad XF post))) args s mc0 ms0 (x_A N0)) (F0 m 62 ls [va_rf s0]) := by
  obtain ⟨⟨hx, hb, hml, hown, hts⟩, hr, hlocks, hG, hN⟩ := id C
  unfold wX4_literal_b62 at hw
  refine x_astoreO (lv' := [(5, va_rf s0), (4, va_rf x4)]) hx hb dX4_literal_62 hl (by decide) (by simp only [List.filter_cons, List.filter_nil, x_cat1]; rfl) (fun ls hl => ?_)
  obtain ⟨mc61, ms62, hmc61, hms62, hw⟩ := hw
  refine x_newH (ci := 2) (Cn := RX3) (T := TX3) (N := 2) (fs := [.null, .null]) C hR hS rfl in_X3 tyX3_ok q955 q158 q91 (by decide +kernel) (x_bud hk hmc61) (x_bud hn hms62) dX4_literal_64 (fun q63 H hq65 hRn hS => ?_)
  obtain ⟨t64, ht66, hw⟩ := hw q63 hq65
  have hR := hRn t64 ht66
  obtain ⟨h67, eh67⟩ : ∃ z, z = x_hs h q63 t64 (.inr (2, [.null, .null])) := ⟨_, rfl⟩
  rw [← eh67] at hR
  replace hw := hw h67 eh67
  have hk := x_budN hk hmc61
  have hn := x_budN hn hms62
  refine lv_dup hx hb dX4_literal_67 rfl ?_
  refine x_aloadO hx hb dX4_literal_68 (lv_at hl 1 rfl) ?_
  refine x_aloadO hx hb dX4_literal_70 (lv_at hl 0 rfl) ?_
  obtain ⟨a68, ea68, hw⟩ := hw
  rw [ea68]
  obtain ⟨a69, ea69, hw⟩ := hw
  rw [ea69]
  refine x_callv0 (x_runIN (n := 2) (As := [.ref a68, .ref a69]) (b := q63) C hR hS (kX3_init l D N0 gp _ q63 a68 a69 h67 _ hw) q163 q91 q956 q162 rfl rfl rfl (by decide +kernel) ⟨Nat.le_of_ble_eq_true rfl, Nat.le_of_ble_eq_true rfl⟩ rfl hl.1 rfl (Nat.le_of_ble_eq_true rfl) dX4_literal_72 ⟨x_bud0 hk, x_bud0 hn⟩) hS (fun X1 h70 H locs hq hR hS => ?_)
  clear hw
  obtain ⟨e1, hw⟩ := hq
  rw [e1] at hR
  exact x_enda (v := (some q63)) C (Or.inl ⟨_, rfl⟩) hR hS ⟨_, rfl, ⟨_, _, rfl, hw⟩⟩ (x_le hk) (x_le hn) dX4_literal_75
def wX4_literal_b43 (post : Option Nat → (Nat → Int32) → (Nat → Nat → Int32) → x_H → Prop) (gp : Nat → Nat) (ad : Nat → Nat) (p2 : Int32) (F : (Nat → Int32)) (M : (Nat → Nat → Int32)) (h : x_H) (mc : Nat) (ms : Nat) (s0 : Option Nat) : Prop :=
  ((F 204) = 0 → wX4_literal_b62 post gp ad p2 F M h mc ms s0 (some (gp 16))) ∧ (¬ (F 204) = 0 → ∃ ca55 cb56 mc57 ms58 : Nat, ca55 + mc57 ≤ mc ∧ cb56 + ms58 ≤ ms ∧ wX4_string (fun r54 F59 M59 h60 => wX4_literal_b62 post gp ad p2 F59 M59 h60 mc57 ms58 s0 r54) ad 0 F M h ca55 cb56)
theorem kX4_literal_b43 {post : Option Nat → (Nat → Int32) → (Nat → Nat → Int32) → x_H → Prop} {p2 : Int32} (C : x_C p s m args meth c cX4_literal 6 (some (.object "PageServer$Entry")) RX4 D N0 gp) {F : (Nat → Int32)} {M : (Nat → Nat → Int32)} {h : x_H} {mc : Nat} {ms : Nat} {s0 : Option Nat} {k n : Nat} {H : Heap} {locs : List Loc} {ls : Array Slot} (hR : x_R D s N0 (fixC ad F M ++ XF) h H) (hS : va_S (x_A N0) s.heap H locs) (hk : k + mc ≤ mc0) (hn : n + ms ≤ ms0) (hl : lv_has ls 6 [(0, .ref (ad 4))]) (hw : wX4_literal_b43 post gp ad p2 F M h mc ms s0) : W p l e (rmX4_literal mc0 ms0) s m args below meth c H locs k n (MQ below (x_Qc D N0 (x_Va (qCa ad XF post))) args s mc0 ms0 (x_A N0)) (F0 m 43 ls [va_rf s0]) := by
  obtain ⟨⟨hx, hb, hml, hown, hts⟩, hr, hlocks, hG, hN⟩ := id C
  unfold wX4_literal_b43 at hw
  refine x_astoreO (lv' := [(4, va_rf s0), (0, .ref (ad 4))]) hx hb dX4_literal_43 hl (by decide) rfl (fun ls hl => ?_)
  refine lv_aload_n hx hb dX4_literal_45 rfl (lv_at hl 1 rfl) ?_
  refine x_get (ci := 3) (Cn := RX4) (T := TX4) (N := 5) (v := .int (F 204)) C (hR.rdX 2 rfl) rfl in_X4 4 (by decide) q301 (fun _ h9 => h9) rfl dX4_literal_46 ?_
  refine lv_if_eq (tgt := 60) hx hb dX4_literal_49 (by decide) (fun c53 => ?_) (fun c53 => ?_)
  · replace hw := hw.1 c53
    refine x_ldcS (tx := "") (k := 16) C (by decide) dX4_literal_60 ?_
    exact kX4_literal_b62 C hR hS hk hn (lv_sub hl [0] rfl) hw
  · replace hw := hw.2 c53
    refine lv_aload_n hx hb dX4_literal_52 rfl (lv_at hl 1 rfl) ?_
    refine lv_iconst (v := 0) hx hb dX4_literal_53 (by decide) ?_
    obtain ⟨ca55, cb56, mc57, ms58, hca55, hcb56, hw⟩ := hw
    refine x_calla (x_runV (n := 1) (As := [.int 0]) C hR hS (kX4_string l D N0 gp ad XF 0 F M h ca55 cb56 _ hw) (lw_V q696 q697 q698 q96 q699) rfl rfl (by decide +kernel) ⟨Nat.le_of_ble_eq_true rfl, Nat.le_of_ble_eq_true rfl⟩ (x_recv C (hR.rdX 2 rfl) rfl) rfl hl.1 rfl (Nat.le_of_ble_eq_true rfl) dX4_literal_54 ⟨x_bud hk hca55, x_bud hn hcb56⟩) hS (fun r54 X1 h60 H locs hq hR hS => ?_)
    clear hw
    obtain ⟨F59, M59, e1, hw⟩ := hq
    rw [e1] at hR
    have hk := x_budN hk hca55
    have hn := x_budN hn hcb56
    refine lv_goto (tgt := 62) hx hb dX4_literal_57 (by decide) ?_
    exact kX4_literal_b62 C hR hS hk hn (lv_sub hl [0] rfl) hw
def wX4_literal_b14 (post : Option Nat → (Nat → Int32) → (Nat → Nat → Int32) → x_H → Prop) (gp : Nat → Nat) (ad : Nat → Nat) (p2 : Int32) (F : (Nat → Int32)) (M : (Nat → Nat → Int32)) (h : x_H) (mc : Nat) (ms : Nat) (s0 : Option Nat) : Prop :=
  (s0 = none → ((F 204) = 0 → wX4_literal_b43 post gp ad p2 F M h mc ms (some (gp 16))) ∧ (¬ (F 204) = 0 → ∃ ca43 cb44 mc45 ms46 : Nat, ca43 + mc45 ≤ mc ∧ cb44 + ms46 ≤ ms ∧ wX4_string (fun r42 F47 M47 h48 => wX4_literal_b43 post gp ad p2 F47 M47 h48 mc45 ms46 r42) ad 1 F M h ca43 cb44)) ∧ (∀ a40 : Nat, s0 = some a40 → ∃ (t50 : Nat) (fs51 : List Value), h a40 = some (t50, .inr (2, fs51)) ∧ wX3_name (fun r49 => wX4_literal_b43 post gp ad p2 F M h mc ms r49) a40 h)
theorem kX4_literal_b14 {post : Option Nat → (Nat → Int32) → (Nat → Nat → Int32) → x_H → Prop} {p2 : Int32} (C : x_C p s m args meth c cX4_literal 6 (some (.object "PageServer$Entry")) RX4 D N0 gp) {F : (Nat → Int32)} {M : (Nat → Nat → Int32)} {h : x_H} {mc : Nat} {ms : Nat} {s0 : Option Nat} {k n : Nat} {H : Heap} {locs : List Loc} {ls : Array Slot} (hR : x_R D s N0 (fixC ad F M ++ XF) h H) (hS : va_S (x_A N0) s.heap H locs) (hk : k + mc ≤ mc0) (hn : n + ms ≤ ms0) (hl : lv_has ls 6 [(0, .ref (ad 4))]) (hw : wX4_literal_b14 post gp ad p2 F M h mc ms s0) : W p l e (rmX4_literal mc0 ms0) s m args below meth c H locs k n (MQ below (x_Qc D N0 (x_Va (qCa ad XF post))) args s mc0 ms0 (x_A N0)) (F0 m 14 ls [va_rf s0]) := by
  obtain ⟨⟨hx, hb, hml, hown, hts⟩, hr, hlocks, hG, hN⟩ := id C
  unfold wX4_literal_b14 at hw
  refine x_astore_nO (lv' := [(3, va_rf s0), (0, .ref (ad 4))]) hx hb dX4_literal_14 rfl hl (by decide) rfl (fun ls hl => ?_)
  refine x_aload_nO hx hb dX4_literal_15 rfl (lv_at hl 0 rfl) ?_
  cases s0 with
  | none =>
    replace hw := hw.1 rfl
    refine lv_ifnonnullN hx hb dX4_literal_16 ?_
    refine lv_aload_n hx hb dX4_literal_19 rfl (lv_at hl 1 rfl) ?_
    refine x_get (ci := 3) (Cn := RX4) (T := TX4) (N := 5) (v := .int (F 204)) C (hR.rdX 2 rfl) rfl in_X4 4 (by decide) q301 (fun _ h9 => h9) rfl dX4_literal_20 ?_
    refine lv_if_eq (tgt := 34) hx hb dX4_literal_23 (by decide) (fun c41 => ?_) (fun c41 => ?_)
    · replace hw := hw.1 c41
      refine x_ldcS (tx := "") (k := 16) C (by decide) dX4_literal_34 ?_
      refine lv_goto (tgt := 43) hx hb dX4_literal_36 (by decide) ?_
      exact kX4_literal_b43 C hR hS hk hn (lv_sub hl [1] rfl) hw
    · replace hw := hw.2 c41
      refine lv_aload_n hx hb dX4_literal_26 rfl (lv_at hl 1 rfl) ?_
      refine lv_iconst (v := 1) hx hb dX4_literal_27 (by decide) ?_
      obtain ⟨ca43, cb44, mc45, ms46, hca43, hcb44, hw⟩ := hw
      refine x_calla (x_runV (n := 1) (As := [.int 1]) C hR hS (kX4_string l D N0 gp ad XF 1 F M h ca43 cb44 _ hw) (lw_V q696 q697 q698 q96 q699) rfl rfl (by decide +kernel) ⟨Nat.le_of_ble_eq_true rfl, Nat.le_of_ble_eq_true rfl⟩ (x_recv C (hR.rdX 2 rfl) rfl) rfl hl.1 rfl (Nat.le_of_ble_eq_true rfl) dX4_literal_28 ⟨x_bud hk hca43, x_bud hn hcb44⟩) hS (fun r42 X1 h48 H locs hq hR hS => ?_)
      clear hw
      obtain ⟨F47, M47, e1, hw⟩ := hq
      rw [e1] at hR
      have hk := x_budN hk hca43
      have hn := x_budN hn hcb44
      refine lv_goto (tgt := 43) hx hb dX4_literal_31 (by decide) ?_
      exact kX4_literal_b43 C hR hS hk hn (lv_sub hl [1] rfl) hw
  | some a40 =>
    replace hw := hw.2 a40 rfl
    refine lv_ifnonnull (tgt := 39) hx hb dX4_literal_16 (by decide) ?_
    refine lv_aload_n hx hb dX4_literal_39 rfl (lv_at hl 0 rfl) ?_
    obtain ⟨t50, fs51, he52, hw⟩ := hw
    refine x_calla0 (x_runV (n := 0) (As := []) C hR hS (kX3_name l D N0 gp _ a40 h _ hw) (lw_V q951 q952 q953 q91 q954) rfl rfl (by decide +kernel) ⟨Nat.le_of_ble_eq_true rfl, Nat.le_of_ble_eq_true rfl⟩ (x_recv C (hR.rdH he52) rfl) rfl hl.1 rfl (Nat.le_of_ble_eq_true rfl) dX4_literal_40 ⟨x_bud0 hk, x_bud0 hn⟩) hS (fun r49 X1 h1 H locs hq hR hS => ?_)
    clear hw
    obtain ⟨e1, e2, hw⟩ := hq
    rw [e1, e2] at hR
    exact kX4_literal_b43 C hR hS hk hn (lv_sub hl [1] rfl) hw
end
def wX4_literal (post : Option Nat → (Nat → Int32) → (Nat → Nat → Int32) → x_H → Prop) (gp : Nat → Nat) (ad : Nat → Nat) (p2 : Int32) (F : (Nat → Int32)) (M : (Nat → Nat → Int32)) (h : x_H) (mc : Nat) (ms : Nat) : Prop :=
  (p2 = 0 → wX4_literal_b14 post gp ad p2 F M h mc ms none) ∧ (¬ p2 = 0 → wX4_known (fun r37 F38 M38 h39 => wX4_literal_b14 post gp ad p2 F38 M38 h39 mc ms r37) ad p2 F M h)
theorem kX4_literal (l : Launch) (D : va_G) (N0 : Nat) (gp : Nat → Nat) (ad : Nat → Nat) (XF : x_X) (p2 : Int32) (F : (Nat → Int32)) (M : (Nat → Nat → Int32)) (h : x_H) (mc : Nat) (ms : Nat) (post : Option Nat → (Nat → Int32) → (Nat → Nat → Int32) → x_H → Prop) (hw : wX4_literal post gp ad p2 F M h mc ms) : Met l yX4_literal (ws_ yX4_literal cX4_literal 6 (some (.object "PageServer$Entry"))) (rmX4_literal mc ms) (x_Pc D N0 gp (fixC ad F M ++ XF) h [.ref (ad 4), .ref (ad 3), .int p2]) (x_Qc D N0 (x_Va (qCa ad XF post))) mc ms (x_A N0) := by
  refine x_start (lv := [(0, .ref (ad 4)), (1, .ref (ad 3)), (2, .int p2)]) (by decide) rfl (Nat.le_of_ble_eq_true rfl) rfl ?_
  intro p e s m below meth c C hR ls hl
  have hS : va_S (x_A N0) s.heap s.heap [] := va_S.rf
  obtain ⟨⟨hx, hb, hml, hown, hts⟩, hr, hlocks, hG, hN⟩ := id C
  unfold wX4_literal at hw
  have hk : 0 + mc ≤ mc := Nat.le_of_eq (Nat.zero_add _)
  have hn : 0 + ms ≤ ms := Nat.le_of_eq (Nat.zero_add _)
  refine lv_iload_n hx hb dX4_literal_0 rfl (lv_at hl 2 rfl) ?_
  refine lv_if_ne (tgt := 8) hx hb dX4_literal_1 (by decide) (fun c36 => ?_) (fun c36 => ?_)
  · replace hw := hw.2 c36
    refine lv_aload_n hx hb dX4_literal_8 rfl (lv_at hl 0 rfl) ?_
    refine lv_aload_n hx hb dX4_literal_9 rfl (lv_at hl 1 rfl) ?_
    refine lv_iload_n hx hb dX4_literal_10 rfl (lv_at hl 2 rfl) ?_
    refine x_calla0 (x_runV (n := 2) (As := [.ref (ad 3), .int p2]) C hR hS (kX4_known l D N0 gp ad XF p2 F M h _ hw) (lw_V q681 q683 qs26 q96 q684) rfl rfl (by decide +kernel) ⟨Nat.le_of_ble_eq_true rfl, Nat.le_of_ble_eq_true rfl⟩ (x_recv C (hR.rdX 2 rfl) rfl) rfl hl.1 rfl (Nat.le_of_ble_eq_true rfl) dX4_literal_11 ⟨x_bud0 hk, x_bud0 hn⟩) hS (fun r37 X1 h39 H locs hq hR hS => ?_)
    clear hw
    obtain ⟨F38, M38, e1, hw⟩ := hq
    rw [e1] at hR
    exact kX4_literal_b14 C hR hS hk hn (lv_sub hl [0] rfl) hw
  · replace hw := hw.1 c36
    refine lv_null hx hb dX4_literal_4 ?_
    refine lv_goto (tgt := 14) hx hb dX4_literal_5 (by decide) ?_
    exact kX4_literal_b14 C hR hS hk hn (lv_sub hl [0] rfl) hw
/-- PageServer$Entry.takes()I -/
abbrev rmX3_takes : Room := { frames := 2, cells := 0, slots := 0, locals := 40 }
section
variable {p : Program} {l : Launch} {e : Env} {s : State} {m : MethodId} {args : Array Value} {below : List Frame} {meth : Method} {c : Code} {D : va_G} {N0 : Nat} {gp : Nat → Nat} {X : x_X}
end
def wX3_takes (post : Int32 → Prop) (p0 : Nat) (h : x_H) : Prop :=
  ∃ v16 : Option Nat, x_f h p0 2 0 (va_rf v16) ∧ ∃ a17 : Nat, v16 = some a17 ∧ ∃ (t19 : Nat) (fs20 : List Value), h a17 = some (t19, .inr (9, fs20)) ∧ wJ9_length (fun r18 => ∃ v23 : Option Nat, x_f h p0 2 1 (va_rf v23) ∧ ∃ a24 : Nat, v23 = some a24 ∧ ∃ (t26 : Nat) (fs27 : List Value), h a24 = some (t26, .inr (9, fs27)) ∧ wJ9_length (fun r25 => post (((2 : Int32) + r18) + r25) ) a24 h) a17 h
theorem kX3_takes (l : Launch) (D : va_G) (N0 : Nat) (gp : Nat → Nat) (X : x_X) (p0 : Nat) (h : x_H) (post : Int32 → Prop) (hw : wX3_takes post p0 h ) : Met l yX3_takes (ws_ yX3_takes cX3_takes 1 (some .int)) rmX3_takes (x_Pc D N0 gp X h [.ref p0]) (x_Qc D N0 (x_Vi (qPi X h post))) 0 0 (x_A N0) := by
  refine x_start (lv := [(0, .ref p0)]) (by decide) rfl (Nat.le_of_ble_eq_true rfl) rfl ?_
  intro p e s m below meth c C hR ls hl
  have hS : va_S (x_A N0) s.heap s.heap [] := va_S.rf
  obtain ⟨⟨hx, hb, hml, hown, hts⟩, hr, hlocks, hG, hN⟩ := id C
  unfold wX3_takes at hw
  refine lv_iconst (v := 2) hx hb dX3_takes_0 (by decide) ?_
  refine lv_aload_n hx hb dX3_takes_1 rfl (lv_at hl 0 rfl) ?_
  obtain ⟨v16, hf15, hw⟩ := hw
  refine x_getH (ci := 2) (Cn := RX3) (T := TX3) (N := 2) (k := 0) C hR hf15 rfl in_X3 (by decide) q168 (fun _ h9 => h9) dX3_takes_2 ?_
  obtain ⟨a17, ea17, hw⟩ := hw
  rw [ea17]
  obtain ⟨t19, fs20, he21, hw⟩ := hw
  refine x_calli0 (x_runV (n := 0) (As := []) C hR hS (kJ9_length l D N0 gp _ a17 h _ hw) (lw_V q965 q783 q784 q99 q785) rfl rfl (by decide +kernel) ⟨Nat.le_of_ble_eq_true rfl, Nat.le_of_ble_eq_true rfl⟩ (x_recv C (hR.rdH he21) rfl) rfl hl.1 rfl (Nat.le_of_ble_eq_true rfl) dX3_takes_5 ⟨Nat.le_refl _, Nat.le_refl _⟩) hS (fun r18 X1 h1 H locs hq hR hS => ?_)
  clear hw
  obtain ⟨e1, e2, hw⟩ := hq
  rw [e1, e2] at hR
  refine lv_iadd hx hb dX3_takes_8 ?_
  refine lv_aload_n hx hb dX3_takes_9 rfl (lv_at hl 0 rfl) ?_
  obtain ⟨v23, hf22, hw⟩ := hw
  refine x_getH (ci := 2) (Cn := RX3) (T := TX3) (N := 2) (k := 1) C hR hf22 rfl in_X3 (by decide) q169 (fun _ h9 => h9) dX3_takes_10 ?_
  obtain ⟨a24, ea24, hw⟩ := hw
  rw [ea24]
  obtain ⟨t26, fs27, he28, hw⟩ := hw
  refine x_calli0 (x_runV (n := 0) (As := []) C hR hS (kJ9_length l D N0 gp _ a24 h _ hw) (lw_V q965 q783 q784 q99 q785) rfl rfl (by decide +kernel) ⟨Nat.le_of_ble_eq_true rfl, Nat.le_of_ble_eq_true rfl⟩ (x_recv C (hR.rdH he28) rfl) rfl hl.1 rfl (Nat.le_of_ble_eq_true rfl) dX3_takes_13 ⟨Nat.le_refl _, Nat.le_refl _⟩) hS (fun r25 X1 h1 H locs hq hR hS => ?_)
  clear hw
  obtain ⟨e1, e2, hw⟩ := hq
  rw [e1, e2] at hR
  refine lv_iadd hx hb dX3_takes_16 ?_
  exact x_endi C hR hS ⟨_, rfl, ⟨rfl, rfl, hw⟩⟩ (Nat.le_refl _) (Nat.le_refl _) dX3_takes_17
/-- PageServer$Table.taken()I -/
abbrev rmX2_taken : Room := { frames := 3, cells := 0, slots := 0, locals := 64 }
section
variable {p : Program} {l : Launch} {e : Env} {s : State} {m : MethodId} {args : Array Value} {below : List Frame} {meth : Method} {c : Code} {D : va_G} {N0 : Nat} {gp : Nat → Nat} {ad : Nat → Nat} {XF : x_X}
def wX2_taken_b40 (post : Int32 → Prop) (ad : Nat → Nat) (F : (Nat → Int32)) (M : (Nat → Nat → Int32)) (h : x_H) (x1 : Int32) : Prop :=
  post x1 
theorem kX2_taken_b40 {post : Int32 → Prop} {F : (Nat → Int32)} {M : (Nat → Nat → Int32)} {h : x_H} (C : x_C p s m args meth c cX2_taken 4 (some .int) RX2 D N0 gp) {x1 : Int32} {H : Heap} {locs : List Loc} {ls : Array Slot} (hR : x_R D s N0 (fixC ad F M ++ XF) h H) (hS : va_S (x_A N0) s.heap H locs) (hl : lv_has ls 4 [(1, .int x1)]) (hw : wX2_taken_b40 post ad F M h x1) : W p l e rmX2_taken s m args below meth c H locs 0 0 (MQ below (x_Qc D N0 (x_Vi (qPi (fixC ad F M ++ XF) h post))) args s 0 0 (x_A N0)) (F0 m 40 ls []) := by
  obtain ⟨⟨hx, hb, hml, hown, hts⟩, hr, hlocks, hG, hN⟩ := id C
  unfold wX2_taken_b40 at hw
  refine lv_iload_n hx hb dX2_taken_40 rfl (lv_at hl 0 rfl) ?_
  exact x_endi C hR hS ⟨_, rfl, ⟨rfl, rfl, hw⟩⟩ (Nat.le_refl _) (Nat.le_refl _) dX2_taken_41
def tX2_taken_b4 (post : Int32 → Prop) (K4 : Int32 → Int32 → Prop) (ad : Nat → Nat) (F : (Nat → Int32)) (M : (Nat → Nat → Int32)) (h : x_H) (x1 : Int32) (x2 : Int32) : Prop :=
  ∃ (t21 : Nat) (fs22 : List Value), h (ad 101) = some (t21, .inr (7, fs22)) ∧ wJ2_size (fun r20 => (r20 ≤ x2 → wX2_taken_b40 post ad F M h x1) ∧ (¬ r20 ≤ x2 → ∃ (t26 : Nat) (fs27 : List Value), h (ad 101) = some (t26, .inr (7, fs27)) ∧ wJ2_get (fun r25 => ∃ a29 : Nat, r25 = some a29 ∧ ∃ (t30 : Nat) (fs31 : List Value), h a29 = some (t30, .inr (2, fs31)) ∧ ∃ (t34 : Nat) (fs35 : List Value), h a29 = some (t34, .inr (2, fs35)) ∧ wX3_takes (fun r33 => K4 (x1 + r33) (x2 + 1)) a29 h) (ad 101) x2 h)) (ad 101) h
def wX2_taken_b4 (post : Int32 → Prop) (ad : Nat → Nat) (F : (Nat → Int32)) (M : (Nat → Nat → Int32)) (h : x_H) : Nat → Int32 → Int32 → Prop
  | 0 => fun _ _ => False
  | n + 1 => fun x1 x2 => tX2_taken_b4 post (wX2_taken_b4 post ad F M h n) ad F M h x1 x2
theorem kX2_taken_b4 {post : Int32 → Prop} {F : (Nat → Int32)} {M : (Nat → Nat → Int32)} {h : x_H} (C : x_C p s m args meth c cX2_taken 4 (some .int) RX2 D N0 gp) : ∀ (nn : Nat) (x1 : Int32) (x2 : Int32) (H : Heap) (locs : List Loc) (ls : Array Slot), x_R D s N0 (fixC ad F M ++ XF) h H → va_S (x_A N0) s.heap H locs → lv_has ls 4 [(0, .ref (ad 3)), (1, .int x1), (2, .int x2)] → wX2_taken_b4 post ad F M h nn x1 x2 → W p l e rmX2_taken s m args below meth c H locs 0 0 (MQ below (x_Qc D N0 (x_Vi (qPi (fixC ad F M ++ XF) h post))) args s 0 0 (x_A N0)) (F0 m 4 ls []) := by
  obtain ⟨⟨hx, hb, hml, hown, hts⟩, hr, hlocks, hG, hN⟩ := id C
  intro nn
  induction nn with
  | zero =>
    intro x1 x2 H locs ls hR hS hl hw
    exact False.elim hw
  | succ nn ih =>
    intro x1 x2 H locs ls hR hS hl hw
    have hK4 := ih
    replace hw : tX2_taken_b4 post (wX2_taken_b4 post ad F M h nn) ad F M h x1 x2 := hw
    unfold tX2_taken_b4 at hw
    refine lv_iload_n hx hb dX2_taken_4 rfl (lv_at hl 2 rfl) ?_
    refine lv_aload_n hx hb dX2_taken_5 rfl (lv_at hl 0 rfl) ?_
    refine x_get (ci := 1) (Cn := RX2) (T := TX2) (N := 3) (v := .ref (ad 101)) C (hR.rdX 1 rfl) rfl in_X2 1 (by decide) q246 (fun _ h9 => h9) rfl dX2_taken_6 ?_
    obtain ⟨t21, fs22, he23, hw⟩ := hw
    refine x_calli0 (x_runV (n := 0) (As := []) C hR hS (kJ2_size l D N0 gp _ (ad 101) h _ hw) (lw_V q689 q359 q360 q88 q361) rfl rfl (by decide +kernel) ⟨Nat.le_of_ble_eq_true rfl, Nat.le_of_ble_eq_true rfl⟩ (x_recv C (hR.rdH he23) rfl) rfl hl.1 rfl (Nat.le_of_ble_eq_true rfl) dX2_taken_9 ⟨Nat.le_refl _, Nat.le_refl _⟩) hS (fun r20 X1 h1 H locs hq hR hS => ?_)
    clear hw
    obtain ⟨e1, e2, hw⟩ := hq
    rw [e1, e2] at hR
    refine lv_icmp_ge (tgt := 40) hx hb dX2_taken_12 (by decide) (fun c24 => ?_) (fun c24 => ?_)
    · replace hw := hw.1 c24
      exact kX2_taken_b40 C hR hS (lv_sub hl [1] rfl) hw
    · replace hw := hw.2 c24
      refine lv_aload_n hx hb dX2_taken_15 rfl (lv_at hl 0 rfl) ?_
      refine x_get (ci := 1) (Cn := RX2) (T := TX2) (N := 3) (v := .ref (ad 101)) C (hR.rdX 1 rfl) rfl in_X2 1 (by decide) q246 (fun _ h9 => h9) rfl dX2_taken_16 ?_
      refine lv_iload_n hx hb dX2_taken_19 rfl (lv_at hl 2 rfl) ?_
      obtain ⟨t26, fs27, he28, hw⟩ := hw
      refine x_calla0 (x_runV (n := 1) (As := [.int x2]) C hR hS (kJ2_get l D N0 gp _ (ad 101) x2 h _ hw) (lw_V q690 q599 q600 q88 q601) rfl rfl (by decide +kernel) ⟨Nat.le_of_ble_eq_true rfl, Nat.le_of_ble_eq_true rfl⟩ (x_recv C (hR.rdH he28) rfl) rfl hl.1 rfl (Nat.le_of_ble_eq_true rfl) dX2_taken_20 ⟨Nat.le_refl _, Nat.le_refl _⟩) hS (fun r25 X1 h1 H locs hq hR hS => ?_)
      clear hw
      obtain ⟨e1, e2, hw⟩ := hq
      rw [e1, e2] at hR
      obtain ⟨a29, ea29, hw⟩ := hw
      rw [ea29]
      obtain ⟨t30, fs31, he32, hw⟩ := hw
      refine x_castH (ci := 2) (Cn := RX3) (T := TX3) (N := 2) C hR he32 rfl q157 dX2_taken_23 ?_
      refine lv_astore_n (lv' := [(3, .ref a29), (0, .ref (ad 3)), (1, .int x1), (2, .int x2)]) hx hb dX2_taken_26 rfl hl (by decide) rfl (fun ls hl => ?_)
      refine lv_iload_n hx hb dX2_taken_27 rfl (lv_at hl 2 rfl) ?_
      refine lv_aload_n hx hb dX2_taken_28 rfl (lv_at hl 0 rfl) ?_
      obtain ⟨t34, fs35, he36, hw⟩ := hw
      refine x_calli0 (x_runV (n := 0) (As := []) C hR hS (kX3_takes l D N0 gp _ a29 h _ hw) (lw_V q961 q962 q963 q91 q964) rfl rfl (by decide +kernel) ⟨Nat.le_of_ble_eq_true rfl, Nat.le_of_ble_eq_true rfl⟩ (x_recv C (hR.rdH he36) rfl) rfl hl.1 rfl (Nat.le_of_ble_eq_true rfl) dX2_taken_29 ⟨Nat.le_refl _, Nat.le_refl _⟩) hS (fun r33 X1 h1 H locs hq hR hS => ?_)
      clear hw
      obtain ⟨e1, e2, hw⟩ := hq
      rw [e1, e2] at hR
      refine lv_iadd hx hb dX2_taken_32 ?_
      refine lv_istore_n (lv' := [(1, .int (x1 + r33)), (3, .ref a29), (0, .ref (ad 3)), (2, .int x2)]) hx hb dX2_taken_33 rfl hl (by decide) rfl (fun ls hl => ?_)
      refine lv_iinc (v := x2 + 1) (lv' := [(2, .int (x2 + 1)), (1, .int (x1 + r33)), (3, .ref a29), (0, .ref (ad 3))]) hx hb dX2_taken_34 hl (k := 3) rfl (x_inc 1 1 (by decide)) (by decide) rfl (fun ls hl => ?_)
      refine lv_goto (tgt := 4) hx hb dX2_taken_37 (by decide) ?_
      exact hK4 _ _ _ _ _ hR hS (lv_sub hl [3, 1, 0] rfl) hw
end
def wX2_taken (post : Int32 → Prop) (ad : Nat → Nat) (F : (Nat → Int32)) (M : (Nat → Nat → Int32)) (h : x_H) : Prop :=
  ∃ n19 : Nat, wX2_taken_b4 post ad F M h n19 0 0
theorem kX2_taken (l : Launch) (D : va_G) (N0 : Nat) (gp : Nat → Nat) (ad : Nat → Nat) (XF : x_X) (F : (Nat → Int32)) (M : (Nat → Nat → Int32)) (h : x_H) (post : Int32 → Prop) (hw : wX2_taken post ad F M h ) : Met l yX2_taken (ws_ yX2_taken cX2_taken 4 (some .int)) rmX2_taken (x_Pc D N0 gp (fixC ad F M ++ XF) h [.ref (ad 3)]) (x_Qc D N0 (x_Vi (qPi (fixC ad F M ++ XF) h post))) 0 0 (x_A N0) := by
  refine x_start (lv := [(0, .ref (ad 3))]) (by decide) rfl (Nat.le_of_ble_eq_true rfl) rfl ?_
  intro p e s m below meth c C hR ls hl
  have hS : va_S (x_A N0) s.heap s.heap [] := va_S.rf
  obtain ⟨⟨hx, hb, hml, hown, hts⟩, hr, hlocks, hG, hN⟩ := id C
  unfold wX2_taken at hw
  refine lv_iconst (v := 0) hx hb dX2_taken_0 (by decide) ?_
  refine lv_istore_n (lv' := [(1, .int 0), (0, .ref (ad 3))]) hx hb dX2_taken_1 rfl hl (by decide) rfl (fun ls hl => ?_)
  refine lv_iconst (v := 0) hx hb dX2_taken_2 (by decide) ?_
  refine lv_istore_n (lv' := [(2, .int 0), (1, .int 0), (0, .ref (ad 3))]) hx hb dX2_taken_3 rfl hl (by decide) rfl (fun ls hl => ?_)
  obtain ⟨n19, hw⟩ := hw
  exact kX2_taken_b4 C n19 _ _ _ _ _ hR hS (lv_sub hl [2, 1, 0] rfl) hw
/-- PageServer$Table.make(I)V -/
abbrev rmX2_make : Room := { frames := 4, cells := 0, slots := 0, locals := 87 }
section
variable {p : Program} {l : Launch} {e : Env} {s : State} {m : MethodId} {args : Array Value} {below : List Frame} {meth : Method} {c : Code} {D : va_G} {N0 : Nat} {gp : Nat → Nat} {ad : Nat → Nat} {XF : x_X}
def wX2_make_b43 (post : (Nat → Int32) → (Nat → Nat → Int32) → x_H → Prop) (ad : Nat → Nat) (p1 : Int32) (F : (Nat → Int32)) (M : (Nat → Nat → Int32)) (h : x_H) : Prop :=
  post F M h
theorem kX2_make_b43 {post : (Nat → Int32) → (Nat → Nat → Int32) → x_H → Prop} {p1 : Int32} (C : x_C p s m args meth c cX2_make 2 none RX2 D N0 gp) {F : (Nat → Int32)} {M : (Nat → Nat → Int32)} {h : x_H} {H : Heap} {locs : List Loc} {ls : Array Slot} (hR : x_R D s N0 (fixC ad F M ++ XF) h H) (hS : va_S (x_A N0) s.heap H locs) (hl : lv_has ls 2 []) (hw : wX2_make_b43 post ad p1 F M h) : W p l e rmX2_make s m args below meth c H locs 0 0 (MQ below (x_Qc D N0 (x_Vv (qCv ad XF post))) args s 0 0 (x_A N0)) (F0 m 43 ls []) := by
  obtain ⟨⟨hx, hb, hml, hown, hts⟩, hr, hlocks, hG, hN⟩ := id C
  unfold wX2_make_b43 at hw
  exact x_endv C hR hS ⟨rfl, ⟨_, _, rfl, hw⟩⟩ (Nat.le_refl _) (Nat.le_refl _) dX2_make_43
def tX2_make_b0 (post : (Nat → Int32) → (Nat → Nat → Int32) → x_H → Prop) (K0 : (Nat → Int32) → (Nat → Nat → Int32) → x_H → Prop) (ad : Nat → Nat) (p1 : Int32) (F : (Nat → Int32)) (M : (Nat → Nat → Int32)) (h : x_H) : Prop :=
  ∃ (t20 : Nat) (fs21 : List Value), h (ad 101) = some (t20, .inr (7, fs21)) ∧ wJ2_size (fun r19 => (r19 ≤ 0 → wX2_make_b43 post ad p1 F M h) ∧ (¬ r19 ≤ 0 → wX2_taken (fun r24 => ((r24 + p1) ≤ (F 102) → wX2_make_b43 post ad p1 F M h) ∧ (¬ (r24 + p1) ≤ (F 102) → ∃ (t27 : Nat) (fs28 : List Value), h (ad 101) = some (t27, .inr (7, fs28)) ∧ wJ2_size (fun r26 => ∃ (t32 : Nat) (fs33 : List Value), h (ad 101) = some (t32, .inr (7, fs33)) ∧ wJ2_remove (fun r30 h31 => K0 F M h31) (ad 101) (r26 - 1) h) (ad 101) h)) ad F M h)) (ad 101) h
def wX2_make_b0 (post : (Nat → Int32) → (Nat → Nat → Int32) → x_H → Prop) (ad : Nat → Nat) (p1 : Int32) : Nat → (Nat → Int32) → (Nat → Nat → Int32) → x_H → Prop
  | 0 => fun _ _ _ => False
  | n + 1 => fun F M h => tX2_make_b0 post (wX2_make_b0 post ad p1 n) ad p1 F M h
theorem kX2_make_b0 {post : (Nat → Int32) → (Nat → Nat → Int32) → x_H → Prop} {p1 : Int32} (C : x_C p s m args meth c cX2_make 2 none RX2 D N0 gp) : ∀ (nn : Nat) (F : (Nat → Int32)) (M : (Nat → Nat → Int32)) (h : x_H) (H : Heap) (locs : List Loc) (ls : Array Slot), x_R D s N0 (fixC ad F M ++ XF) h H → va_S (x_A N0) s.heap H locs → lv_has ls 2 [(0, .ref (ad 3)), (1, .int p1)] → wX2_make_b0 post ad p1 nn F M h → W p l e rmX2_make s m args below meth c H locs 0 0 (MQ below (x_Qc D N0 (x_Vv (qCv ad XF post))) args s 0 0 (x_A N0)) (F0 m 0 ls []) := by
  obtain ⟨⟨hx, hb, hml, hown, hts⟩, hr, hlocks, hG, hN⟩ := id C
  intro nn
  induction nn with
  | zero =>
    intro F M h H locs ls hR hS hl hw
    exact False.elim hw
  | succ nn ih =>
    intro F M h H locs ls hR hS hl hw
    have hK0 := ih
    replace hw : tX2_make_b0 post (wX2_make_b0 post ad p1 nn) ad p1 F M h := hw
    unfold tX2_make_b0 at hw
    refine lv_aload_n hx hb dX2_make_0 rfl (lv_at hl 0 rfl) ?_
    refine x_get (ci := 1) (Cn := RX2) (T := TX2) (N := 3) (v := .ref (ad 101)) C (hR.rdX 1 rfl) rfl in_X2 1 (by decide) q246 (fun _ h9 => h9) rfl dX2_make_1 ?_
    obtain ⟨t20, fs21, he22, hw⟩ := hw
    refine x_calli0 (x_runV (n := 0) (As := []) C hR hS (kJ2_size l D N0 gp _ (ad 101) h _ hw) (lw_V q689 q359 q360 q88 q361) rfl rfl (by decide +kernel) ⟨Nat.le_of_ble_eq_true rfl, Nat.le_of_ble_eq_true rfl⟩ (x_recv C (hR.rdH he22) rfl) rfl hl.1 rfl (Nat.le_of_ble_eq_true rfl) dX2_make_4 ⟨Nat.le_refl _, Nat.le_refl _⟩) hS (fun r19 X1 h1 H locs hq hR hS => ?_)
    clear hw
    obtain ⟨e1, e2, hw⟩ := hq
    rw [e1, e2] at hR
    refine lv_if_le (tgt := 43) hx hb dX2_make_7 (by decide) (fun c23 => ?_) (fun c23 => ?_)
    · replace hw := hw.1 c23
      exact kX2_make_b43 C hR hS (lv_sub hl [] rfl) hw
    · replace hw := hw.2 c23
      refine lv_aload_n hx hb dX2_make_10 rfl (lv_at hl 0 rfl) ?_
      refine x_calli0 (x_runV (n := 0) (As := []) C hR hS (kX2_taken l D N0 gp ad XF F M h _ hw) (lw_V q970 q971 q972 q89 q973) rfl rfl (by decide +kernel) ⟨Nat.le_of_ble_eq_true rfl, Nat.le_of_ble_eq_true rfl⟩ (x_recv C (hR.rdX 1 rfl) rfl) rfl hl.1 rfl (Nat.le_of_ble_eq_true rfl) dX2_make_11 ⟨Nat.le_refl _, Nat.le_refl _⟩) hS (fun r24 X1 h1 H locs hq hR hS => ?_)
      clear hw
      obtain ⟨e1, e2, hw⟩ := hq
      rw [e1, e2] at hR
      refine lv_iload_n hx hb dX2_make_14 rfl (lv_at hl 1 rfl) ?_
      refine lv_iadd hx hb dX2_make_15 ?_
      refine lv_aload_n hx hb dX2_make_16 rfl (lv_at hl 0 rfl) ?_
      refine x_get (ci := 1) (Cn := RX2) (T := TX2) (N := 3) (v := .int (F 102)) C (hR.rdX 1 rfl) rfl in_X2 2 (by decide) q248 (fun _ h9 => h9) rfl dX2_make_17 ?_
      refine lv_icmp_le (tgt := 43) hx hb dX2_make_20 (by decide) (fun c25 => ?_) (fun c25 => ?_)
      · replace hw := hw.1 c25
        exact kX2_make_b43 C hR hS (lv_sub hl [] rfl) hw
      · replace hw := hw.2 c25
        refine lv_aload_n hx hb dX2_make_23 rfl (lv_at hl 0 rfl) ?_
        refine x_get (ci := 1) (Cn := RX2) (T := TX2) (N := 3) (v := .ref (ad 101)) C (hR.rdX 1 rfl) rfl in_X2 1 (by decide) q246 (fun _ h9 => h9) rfl dX2_make_24 ?_
        refine lv_aload_n hx hb dX2_make_27 rfl (lv_at hl 0 rfl) ?_
        refine x_get (ci := 1) (Cn := RX2) (T := TX2) (N := 3) (v := .ref (ad 101)) C (hR.rdX 1 rfl) rfl in_X2 1 (by decide) q246 (fun _ h9 => h9) rfl dX2_make_28 ?_
        obtain ⟨t27, fs28, he29, hw⟩ := hw
        refine x_calli0 (x_runV (n := 0) (As := []) C hR hS (kJ2_size l D N0 gp _ (ad 101) h _ hw) (lw_V q689 q359 q360 q88 q361) rfl rfl (by decide +kernel) ⟨Nat.le_of_ble_eq_true rfl, Nat.le_of_ble_eq_true rfl⟩ (x_recv C (hR.rdH he29) rfl) rfl hl.1 rfl (Nat.le_of_ble_eq_true rfl) dX2_make_31 ⟨Nat.le_refl _, Nat.le_refl _⟩) hS (fun r26 X1 h1 H locs hq hR hS => ?_)
        clear hw
        obtain ⟨e1, e2, hw⟩ := hq
        rw [e1, e2] at hR
        refine lv_iconst (v := 1) hx hb dX2_make_34 (by decide) ?_
        refine lv_isub hx hb dX2_make_35 ?_
        obtain ⟨t32, fs33, he34, hw⟩ := hw
        refine x_calla0 (x_runV (n := 1) (As := [.int (r26 - 1)]) C hR hS (kJ2_remove l D N0 gp _ (ad 101) (r26 - 1) h _ hw) (lw_V q974 q363 q364 q88 q365) rfl rfl (by decide +kernel) ⟨Nat.le_of_ble_eq_true rfl, Nat.le_of_ble_eq_true rfl⟩ (x_recv C (hR.rdH he34) rfl) rfl hl.1 rfl (Nat.le_of_ble_eq_true rfl) dX2_make_36 ⟨Nat.le_refl _, Nat.le_refl _⟩) hS (fun r30 X1 h31 H locs hq hR hS => ?_)
        clear hw
        obtain ⟨e1, hw⟩ := hq
        rw [e1] at hR
        refine lv_pop hx hb dX2_make_39 (x_cat1 _) ?_
        refine lv_goto (tgt := 0) hx hb dX2_make_40 (by decide) ?_
        exact hK0 _ _ _ _ _ _ hR hS (lv_sub hl [0, 1] rfl) hw
end
def wX2_make (post : (Nat → Int32) → (Nat → Nat → Int32) → x_H → Prop) (ad : Nat → Nat) (p1 : Int32) (F : (Nat → Int32)) (M : (Nat → Nat → Int32)) (h : x_H) : Prop :=
  ∃ n18 : Nat, wX2_make_b0 post ad p1 n18 F M h
theorem kX2_make (l : Launch) (D : va_G) (N0 : Nat) (gp : Nat → Nat) (ad : Nat → Nat) (XF : x_X) (p1 : Int32) (F : (Nat → Int32)) (M : (Nat → Nat → Int32)) (h : x_H) (post : (Nat → Int32) → (Nat → Nat → Int32) → x_H → Prop) (hw : wX2_make post ad p1 F M h) : Met l yX2_make (ws_ yX2_make cX2_make 2 none) rmX2_make (x_Pc D N0 gp (fixC ad F M ++ XF) h [.ref (ad 3), .int p1]) (x_Qc D N0 (x_Vv (qCv ad XF post))) 0 0 (x_A N0) := by
  refine x_start (lv := [(0, .ref (ad 3)), (1, .int p1)]) (by decide) rfl (Nat.le_of_ble_eq_true rfl) rfl ?_
  intro p e s m below meth c C hR ls hl
  have hS : va_S (x_A N0) s.heap s.heap [] := va_S.rf
  obtain ⟨⟨hx, hb, hml, hown, hts⟩, hr, hlocks, hG, hN⟩ := id C
  unfold wX2_make at hw
  obtain ⟨n18, hw⟩ := hw
  exact kX2_make_b0 C n18 _ _ _ _ _ _ hR hS (lv_sub hl [0, 1] rfl) hw
/-- PageServer$Table.add(LPageServer$Entry;)V -/
abbrev rmX2_add (mc0 ms0 : Nat) : Room := { frames := 6, cells := mc0, slots := ms0, locals := 151 }
section
variable {p : Program} {l : Launch} {e : Env} {s : State} {m : MethodId} {args : Array Value} {below : List Frame} {meth : Method} {c : Code} {D : va_G} {N0 : Nat} {gp : Nat → Nat} {ad : Nat → Nat} {XF : x_X} {mc0 ms0 : Nat}
def wX2_add_b28 (post : (Nat → Int32) → (Nat → Nat → Int32) → x_H → Prop) (gp : Nat → Nat) (ad : Nat → Nat) (p1 : Nat) (F : (Nat → Int32)) (M : (Nat → Nat → Int32)) (h : x_H) (mc : Nat) (ms : Nat) : Prop :=
  post F M h
theorem kX2_add_b28 {post : (Nat → Int32) → (Nat → Nat → Int32) → x_H → Prop} {p1 : Nat} (C : x_C p s m args meth c cX2_add 2 none RX2 D N0 gp) {F : (Nat → Int32)} {M : (Nat → Nat → Int32)} {h : x_H} {mc : Nat} {ms : Nat} {k n : Nat} {H : Heap} {locs : List Loc} {ls : Array Slot} (hR : x_R D s N0 (fixC ad F M ++ XF) h H) (hS : va_S (x_A N0) s.heap H locs) (hk : k + mc ≤ mc0) (hn : n + ms ≤ ms0) (hl : lv_has ls 2 []) (hw : wX2_add_b28 post gp ad p1 F M h mc ms) : W p l e (rmX2_add mc0 ms0) s m args below meth c H locs k n (MQ below (x_Qc D N0 (x_Vv (qCv ad XF post))) args s mc0 ms0 (x_A N0)) (F0 m 28 ls []) := by
  obtain ⟨⟨hx, hb, hml, hown, hts⟩, hr, hlocks, hG, hN⟩ := id C
  unfold wX2_add_b28 at hw
  exact x_endv C hR hS ⟨rfl, ⟨_, _, rfl, hw⟩⟩ (x_le hk) (x_le hn) dX2_add_28
end
def wX2_add (post : (Nat → Int32) → (Nat → Nat → Int32) → x_H → Prop) (gp : Nat → Nat) (ad : Nat → Nat) (p1 : Nat) (F : (Nat → Int32)) (M : (Nat → Nat → Int32)) (h : x_H) (mc : Nat) (ms : Nat) : Prop :=
  ∃ (t21 : Nat) (fs22 : List Value), h p1 = some (t21, .inr (2, fs22)) ∧ wX3_takes (fun r20 => wX2_make (fun F24 M24 h25 => ∃ (t27 : Nat) (fs28 : List Value), h25 p1 = some (t27, .inr (2, fs28)) ∧ wX3_takes (fun r26 => ((F24 102) < r26 → wX2_add_b28 post gp ad p1 F24 M24 h25 mc ms) ∧ (¬ (F24 102) < r26 → ∃ (t36 : Nat) (fs37 : List Value), h25 (ad 101) = some (t36, .inr (7, fs37)) ∧ ∃ ca31 cb32 mc33 ms34 : Nat, ca31 + mc33 ≤ mc ∧ cb32 + ms34 ≤ ms ∧ wJ2_add_3 (fun h35 => wX2_add_b28 post gp ad p1 F24 M24 h35 mc33 ms34) gp (ad 101) 0 p1 h25 ca31 cb32)) p1 h25) ad r20 F M h) p1 h
theorem kX2_add (l : Launch) (D : va_G) (N0 : Nat) (gp : Nat → Nat) (ad : Nat → Nat) (XF : x_X) (p1 : Nat) (F : (Nat → Int32)) (M : (Nat → Nat → Int32)) (h : x_H) (mc : Nat) (ms : Nat) (post : (Nat → Int32) → (Nat → Nat → Int32) → x_H → Prop) (hw : wX2_add post gp ad p1 F M h mc ms) : Met l yX2_add (ws_ yX2_add cX2_add 2 none) (rmX2_add mc ms) (x_Pc D N0 gp (fixC ad F M ++ XF) h [.ref (ad 3), .ref p1]) (x_Qc D N0 (x_Vv (qCv ad XF post))) mc ms (x_A N0) := by
  refine x_start (lv := [(0, .ref (ad 3)), (1, .ref p1)]) (by decide) rfl (Nat.le_of_ble_eq_true rfl) rfl ?_
  intro p e s m below meth c C hR ls hl
  have hS : va_S (x_A N0) s.heap s.heap [] := va_S.rf
  obtain ⟨⟨hx, hb, hml, hown, hts⟩, hr, hlocks, hG, hN⟩ := id C
  unfold wX2_add at hw
  have hk : 0 + mc ≤ mc := Nat.le_of_eq (Nat.zero_add _)
  have hn : 0 + ms ≤ ms := Nat.le_of_eq (Nat.zero_add _)
  refine lv_aload_n hx hb dX2_add_0 rfl (lv_at hl 0 rfl) ?_
  refine lv_aload_n hx hb dX2_add_1 rfl (lv_at hl 1 rfl) ?_
  obtain ⟨t21, fs22, he23, hw⟩ := hw
  refine x_calli0 (x_runV (n := 0) (As := []) C hR hS (kX3_takes l D N0 gp _ p1 h _ hw) (lw_V q961 q962 q963 q91 q964) rfl rfl (by decide +kernel) ⟨Nat.le_of_ble_eq_true rfl, Nat.le_of_ble_eq_true rfl⟩ (x_recv C (hR.rdH he23) rfl) rfl hl.1 rfl (Nat.le_of_ble_eq_true rfl) dX2_add_2 ⟨x_bud0 hk, x_bud0 hn⟩) hS (fun r20 X1 h1 H locs hq hR hS => ?_)
  clear hw
  obtain ⟨e1, e2, hw⟩ := hq
  rw [e1, e2] at hR
  refine x_callv0 (x_runV (n := 1) (As := [.int r20]) C hR hS (kX2_make l D N0 gp ad XF r20 F M h _ hw) (lw_V q966 q968 qs28 q89 q969) rfl rfl (by decide +kernel) ⟨Nat.le_of_ble_eq_true rfl, Nat.le_of_ble_eq_true rfl⟩ (x_recv C (hR.rdX 1 rfl) rfl) rfl hl.1 rfl (Nat.le_of_ble_eq_true rfl) dX2_add_5 ⟨x_bud0 hk, x_bud0 hn⟩) hS (fun X1 h25 H locs hq hR hS => ?_)
  clear hw
  obtain ⟨F24, M24, e1, hw⟩ := hq
  rw [e1] at hR
  refine lv_aload_n hx hb dX2_add_8 rfl (lv_at hl 1 rfl) ?_
  obtain ⟨t27, fs28, he29, hw⟩ := hw
  refine x_calli0 (x_runV (n := 0) (As := []) C hR hS (kX3_takes l D N0 gp _ p1 h25 _ hw) (lw_V q961 q962 q963 q91 q964) rfl rfl (by decide +kernel) ⟨Nat.le_of_ble_eq_true rfl, Nat.le_of_ble_eq_true rfl⟩ (x_recv C (hR.rdH he29) rfl) rfl hl.1 rfl (Nat.le_of_ble_eq_true rfl) dX2_add_9 ⟨x_bud0 hk, x_bud0 hn⟩) hS (fun r26 X1 h1 H locs hq hR hS => ?_)
  clear hw
  obtain ⟨e1, e2, hw⟩ := hq
  rw [e1, e2] at hR
  refine lv_aload_n hx hb dX2_add_12 rfl (lv_at hl 0 rfl) ?_
  refine x_get (ci := 1) (Cn := RX2) (T := TX2) (N := 3) (v := .int (F24 102)) C (hR.rdX 1 rfl) rfl in_X2 2 (by decide) q248 (fun _ h9 => h9) rfl dX2_add_13 ?_
  refine lv_icmp_gt (tgt := 28) hx hb dX2_add_16 (by decide) (fun c30 => ?_) (fun c30 => ?_)
  · replace hw := hw.1 c30
    exact kX2_add_b28 C hR hS hk hn (lv_sub hl [] rfl) hw
  · replace hw := hw.2 c30
    refine lv_aload_n hx hb dX2_add_19 rfl (lv_at hl 0 rfl) ?_
    refine x_get (ci := 1) (Cn := RX2) (T := TX2) (N := 3) (v := .ref (ad 101)) C (hR.rdX 1 rfl) rfl in_X2 1 (by decide) q246 (fun _ h9 => h9) rfl dX2_add_20 ?_
    refine lv_iconst (v := 0) hx hb dX2_add_23 (by decide) ?_
    refine lv_aload_n hx hb dX2_add_24 rfl (lv_at hl 1 rfl) ?_
    obtain ⟨t36, fs37, he38, hw⟩ := hw
    obtain ⟨ca31, cb32, mc33, ms34, hca31, hcb32, hw⟩ := hw
    refine x_callv (x_runV (n := 2) (As := [.int 0, .ref p1]) C hR hS (kJ2_add_3 l D N0 gp _ (ad 101) 0 p1 h25 ca31 cb32 _ hw) (lw_V q975 q976 q977 q88 q978) rfl rfl (by decide +kernel) ⟨Nat.le_of_ble_eq_true rfl, Nat.le_of_ble_eq_true rfl⟩ (x_recv C (hR.rdH he38) rfl) rfl hl.1 rfl (Nat.le_of_ble_eq_true rfl) dX2_add_25 ⟨x_bud hk hca31, x_bud hn hcb32⟩) hS (fun X1 h35 H locs hq hR hS => ?_)
    clear hw
    obtain ⟨e1, hw⟩ := hq
    rw [e1] at hR
    have hk := x_budN hk hca31
    have hn := x_budN hn hcb32
    exact kX2_add_b28 C hR hS hk hn (lv_sub hl [] rfl) hw
/-- PageServer$Table.resize(I)V -/
abbrev rmX2_resize : Room := { frames := 5, cells := 0, slots := 0, locals := 108 }
section
variable {p : Program} {l : Launch} {e : Env} {s : State} {m : MethodId} {args : Array Value} {below : List Frame} {meth : Method} {c : Code} {D : va_G} {N0 : Nat} {gp : Nat → Nat} {ad : Nat → Nat} {XF : x_X}
end
def wX2_resize (post : (Nat → Int32) → (Nat → Nat → Int32) → x_H → Prop) (ad : Nat → Nat) (p1 : Int32) (F : (Nat → Int32)) (M : (Nat → Nat → Int32)) (h : x_H) : Prop :=
  wX2_make (fun F3 M3 h4 => post F3 M3 h4) ad 0 (upd F 102 p1) M h
theorem kX2_resize (l : Launch) (D : va_G) (N0 : Nat) (gp : Nat → Nat) (ad : Nat → Nat) (XF : x_X) (p1 : Int32) (F : (Nat → Int32)) (M : (Nat → Nat → Int32)) (h : x_H) (post : (Nat → Int32) → (Nat → Nat → Int32) → x_H → Prop) (hw : wX2_resize post ad p1 F M h) : Met l yX2_resize (ws_ yX2_resize cX2_resize 2 none) rmX2_resize (x_Pc D N0 gp (fixC ad F M ++ XF) h [.ref (ad 3), .int p1]) (x_Qc D N0 (x_Vv (qCv ad XF post))) 0 0 (x_A N0) := by
  refine x_start (lv := [(0, .ref (ad 3)), (1, .int p1)]) (by decide) rfl (Nat.le_of_ble_eq_true rfl) rfl ?_
  intro p e s m below meth c C hR ls hl
  have hS : va_S (x_A N0) s.heap s.heap [] := va_S.rf
  obtain ⟨⟨hx, hb, hml, hown, hts⟩, hr, hlocks, hG, hN⟩ := id C
  unfold wX2_resize at hw
  refine lv_aload_n hx hb dX2_resize_0 rfl (lv_at hl 0 rfl) ?_
  refine lv_iload_n hx hb dX2_resize_1 rfl (lv_at hl 1 rfl) ?_
  refine x_putX (ci := 1) (Cn := RX2) (T := TX2) (N := 3) (v := .int p1) C hR hS 1 rfl rfl in_X2 tyX2_ok nmX2 2 (by decide) q248 (fun _ h9 => h9) rfl rfl rfl (Nat.le_of_ble_eq_true rfl) (sC_f102 ..) dX2_resize_2 (fun H locs hR hS => ?_)
  refine lv_aload_n hx hb dX2_resize_5 rfl (lv_at hl 0 rfl) ?_
  refine lv_iconst (v := 0) hx hb dX2_resize_6 (by decide) ?_
  refine x_callv0 (x_runV (n := 1) (As := [.int 0]) C hR hS (kX2_make l D N0 gp ad XF 0 (upd F 102 p1) M h _ hw) (lw_V q966 q968 qs28 q89 q969) rfl rfl (by decide +kernel) ⟨Nat.le_of_ble_eq_true rfl, Nat.le_of_ble_eq_true rfl⟩ (x_recv C (hR.rdX 1 rfl) rfl) rfl hl.1 rfl (Nat.le_of_ble_eq_true rfl) dX2_resize_7 ⟨Nat.le_refl _, Nat.le_refl _⟩) hS (fun X1 h4 H locs hq hR hS => ?_)
  clear hw
  obtain ⟨F3, M3, e1, hw⟩ := hq
  rw [e1] at hR
  exact x_endv C hR hS ⟨rfl, ⟨_, _, rfl, hw⟩⟩ (Nat.le_refl _) (Nat.le_refl _) dX2_resize_10
/-- PageServer$Reader.read(LPageServer$Table;Ljava/util/ArrayList;)Z -/
abbrev rmX4_read (mc0 ms0 : Nat) : Room := { frames := 8, cells := mc0, slots := ms0, locals := 201 }
section
variable {p : Program} {l : Launch} {e : Env} {s : State} {m : MethodId} {args : Array Value} {below : List Frame} {meth : Method} {c : Code} {D : va_G} {N0 : Nat} {gp : Nat → Nat} {ad : Nat → Nat} {XF : x_X} {mc0 ms0 : Nat}
def wX4_read_b204 (post : Int32 → (Nat → Int32) → (Nat → Nat → Int32) → x_H → Prop) (K14 : (Nat → Int32) → (Nat → Nat → Int32) → x_H → Nat → Nat → Prop) (gp : Nat → Nat) (ad : Nat → Nat) (p2 : Nat) (F : (Nat → Int32)) (M : (Nat → Nat → Int32)) (h : x_H) (mc : Nat) (ms : Nat) : Prop :=
  K14 F M h mc ms
theorem kX4_read_b204 {post : Int32 → (Nat → Int32) → (Nat → Nat → Int32) → x_H → Prop} {K14 : (Nat → Int32) → (Nat → Nat → Int32) → x_H → Nat → Nat → Prop} {p2 : Nat} (C : x_C p s m args meth c cX4_read 5 (some .boolean) RX4 D N0 gp) (hK14 : ∀ (F : (Nat → Int32)) (M : (Nat → Nat → Int32)) (h : x_H) (mc : Nat) (ms : Nat) (k n : Nat) (H : Heap) (locs : List Loc) (ls : Array Slot), x_R D s N0 (fixC ad F M ++ XF) h H → va_S (x_A N0) s.heap H locs → k + mc ≤ mc0 → n + ms ≤ ms0 → lv_has ls 5 [(0, .ref (ad 4)), (1, .ref (ad 3)), (2, .ref p2)] → K14 F M h mc ms → W p l e (rmX4_read mc0 ms0) s m args below meth c H locs k n (MQ below (x_Qc D N0 (x_Vi (qCi ad XF post))) args s mc0 ms0 (x_A N0)) (F0 m 14 ls [])) {F : (Nat → Int32)} {M : (Nat → Nat → Int32)} {h : x_H} {mc : Nat} {ms : Nat} {k n : Nat} {H : Heap} {locs : List Loc} {ls : Array Slot} (hR : x_R D s N0 (fixC ad F M ++ XF) h H) (hS : va_S (x_A N0) s.heap H locs) (hk : k + mc ≤ mc0) (hn : n + ms ≤ ms0) (hl : lv_has ls 5 [(0, .ref (ad 4)), (1, .ref (ad 3)), (2, .ref p2)]) (hw : wX4_read_b204 post K14 gp ad p2 F M h mc ms) : W p l e (rmX4_read mc0 ms0) s m args below meth c H locs k n (MQ below (x_Qc D N0 (x_Vi (qCi ad XF post))) args s mc0 ms0 (x_A N0)) (F0 m 204 ls []) := by
  obtain ⟨⟨hx, hb, hml, hown, hts⟩, hr, hlocks, hG, hN⟩ := id C
  unfold wX4_read_b204 at hw
  refine lv_goto (tgt := 14) hx hb dX4_read_204 (by decide) ?_
  exact hK14 _ _ _ _ _ _ _ _ _ _ hR hS hk hn (lv_sub hl [0, 1, 2] rfl) hw
def wX4_read_b69 (post : Int32 → (Nat → Int32) → (Nat → Nat → Int32) → x_H → Prop) (K14 : (Nat → Int32) → (Nat → Nat → Int32) → x_H → Nat → Nat → Prop) (gp : Nat → Nat) (ad : Nat → Nat) (p2 : Nat) (F : (Nat → Int32)) (M : (Nat → Nat → Int32)) (h : x_H) (mc : Nat) (ms : Nat) : Prop :=
  wX4_read_b204 post K14 gp ad p2 F M h mc ms
theorem kX4_read_b69 {post : Int32 → (Nat → Int32) → (Nat → Nat → Int32) → x_H → Prop} {K14 : (Nat → Int32) → (Nat → Nat → Int32) → x_H → Nat → Nat → Prop} {p2 : Nat} (C : x_C p s m args meth c cX4_read 5 (some .boolean) RX4 D N0 gp) (hK14 : ∀ (F : (Nat → Int32)) (M : (Nat → Nat → Int32)) (h : x_H) (mc : Nat) (ms : Nat) (k n : Nat) (H : Heap) (locs : List Loc) (ls : Array Slot), x_R D s N0 (fixC ad F M ++ XF) h H → va_S (x_A N0) s.heap H locs → k + mc ≤ mc0 → n + ms ≤ ms0 → lv_has ls 5 [(0, .ref (ad 4)), (1, .ref (ad 3)), (2, .ref p2)] → K14 F M h mc ms → W p l e (rmX4_read mc0 ms0) s m args below meth c H locs k n (MQ below (x_Qc D N0 (x_Vi (qCi ad XF post))) args s mc0 ms0 (x_A N0)) (F0 m 14 ls [])) {F : (Nat → Int32)} {M : (Nat → Nat → Int32)} {h : x_H} {mc : Nat} {ms : Nat} {k n : Nat} {H : Heap} {locs : List Loc} {ls : Array Slot} (hR : x_R D s N0 (fixC ad F M ++ XF) h H) (hS : va_S (x_A N0) s.heap H locs) (hk : k + mc ≤ mc0) (hn : n + ms ≤ ms0) (hl : lv_has ls 5 [(0, .ref (ad 4)), (1, .ref (ad 3)), (2, .ref p2)]) (hw : wX4_read_b69 post K14 gp ad p2 F M h mc ms) : W p l e (rmX4_read mc0 ms0) s m args below meth c H locs k n (MQ below (x_Qc D N0 (x_Vi (qCi ad XF post))) args s mc0 ms0 (x_A N0)) (F0 m 69 ls []) := by
  obtain ⟨⟨hx, hb, hml, hown, hts⟩, hr, hlocks, hG, hN⟩ := id C
  unfold wX4_read_b69 at hw
  refine lv_goto (tgt := 204) hx hb dX4_read_69 (by decide) ?_
  exact kX4_read_b204 C hK14 hR hS hk hn (lv_sub hl [0, 1, 2] rfl) hw
def wX4_read_b116 (post : Int32 → (Nat → Int32) → (Nat → Nat → Int32) → x_H → Prop) (K14 : (Nat → Int32) → (Nat → Nat → Int32) → x_H → Nat → Nat → Prop) (gp : Nat → Nat) (ad : Nat → Nat) (p2 : Nat) (F : (Nat → Int32)) (M : (Nat → Nat → Int32)) (h : x_H) (mc : Nat) (ms : Nat) : Prop :=
  wX4_read_b204 post K14 gp ad p2 F M h mc ms
theorem kX4_read_b116 {post : Int32 → (Nat → Int32) → (Nat → Nat → Int32) → x_H → Prop} {K14 : (Nat → Int32) → (Nat → Nat → Int32) → x_H → Nat → Nat → Prop} {p2 : Nat} (C : x_C p s m args meth c cX4_read 5 (some .boolean) RX4 D N0 gp) (hK14 : ∀ (F : (Nat → Int32)) (M : (Nat → Nat → Int32)) (h : x_H) (mc : Nat) (ms : Nat) (k n : Nat) (H : Heap) (locs : List Loc) (ls : Array Slot), x_R D s N0 (fixC ad F M ++ XF) h H → va_S (x_A N0) s.heap H locs → k + mc ≤ mc0 → n + ms ≤ ms0 → lv_has ls 5 [(0, .ref (ad 4)), (1, .ref (ad 3)), (2, .ref p2)] → K14 F M h mc ms → W p l e (rmX4_read mc0 ms0) s m args below meth c H locs k n (MQ below (x_Qc D N0 (x_Vi (qCi ad XF post))) args s mc0 ms0 (x_A N0)) (F0 m 14 ls [])) {F : (Nat → Int32)} {M : (Nat → Nat → Int32)} {h : x_H} {mc : Nat} {ms : Nat} {k n : Nat} {H : Heap} {locs : List Loc} {ls : Array Slot} (hR : x_R D s N0 (fixC ad F M ++ XF) h H) (hS : va_S (x_A N0) s.heap H locs) (hk : k + mc ≤ mc0) (hn : n + ms ≤ ms0) (hl : lv_has ls 5 [(0, .ref (ad 4)), (1, .ref (ad 3)), (2, .ref p2)]) (hw : wX4_read_b116 post K14 gp ad p2 F M h mc ms) : W p l e (rmX4_read mc0 ms0) s m args below meth c H locs k n (MQ below (x_Qc D N0 (x_Vi (qCi ad XF post))) args s mc0 ms0 (x_A N0)) (F0 m 116 ls []) := by
  obtain ⟨⟨hx, hb, hml, hown, hts⟩, hr, hlocks, hG, hN⟩ := id C
  unfold wX4_read_b116 at hw
  refine lv_goto (tgt := 204) hx hb dX4_read_116 (by decide) ?_
  exact kX4_read_b204 C hK14 hR hS hk hn (lv_sub hl [0, 1, 2] rfl) hw
def wX4_read_b102 (post : Int32 → (Nat → Int32) → (Nat → Nat → Int32) → x_H → Prop) (K14 : (Nat → Int32) → (Nat → Nat → Int32) → x_H → Nat → Nat → Prop) (gp : Nat → Nat) (ad : Nat → Nat) (p2 : Nat) (F : (Nat → Int32)) (M : (Nat → Nat → Int32)) (h : x_H) (mc : Nat) (ms : Nat) (x4 : Option Nat) : Prop :=
  ((F 204) = 0 → wX4_read_b116 post K14 gp ad p2 F M h mc ms) ∧ (¬ (F 204) = 0 → ∃ a151 : Nat, x4 = some a151 ∧ ∃ (t158 : Nat) (fs159 : List Value), h p2 = some (t158, .inr (7, fs159)) ∧ ∃ ca153 cb154 mc155 ms156 : Nat, ca153 + mc155 ≤ mc ∧ cb154 + ms156 ≤ ms ∧ wJ2_add (fun r152 h157 => wX4_read_b116 post K14 gp ad p2 F M h157 mc155 ms156) gp p2 a151 h ca153 cb154)
theorem kX4_read_b102 {post : Int32 → (Nat → Int32) → (Nat → Nat → Int32) → x_H → Prop} {K14 : (Nat → Int32) → (Nat → Nat → Int32) → x_H → Nat → Nat → Prop} {p2 : Nat} (C : x_C p s m args meth c cX4_read 5 (some .boolean) RX4 D N0 gp) (hK14 : ∀ (F : (Nat → Int32)) (M : (Nat → Nat → Int32)) (h : x_H) (mc : Nat) (ms : Nat) (k n : Nat) (H : Heap) (locs : List Loc) (ls : Array Slot), x_R D s N0 (fixC ad F M ++ XF) h H → va_S (x_A N0) s.heap H locs → k + mc ≤ mc0 → n + ms ≤ ms0 → lv_has ls 5 [(0, .ref (ad 4)), (1, .ref (ad 3)), (2, .ref p2)] → K14 F M h mc ms → W p l e (rmX4_read mc0 ms0) s m args below meth c H locs k n (MQ below (x_Qc D N0 (x_Vi (qCi ad XF post))) args s mc0 ms0 (x_A N0)) (F0 m 14 ls [])) {F : (Nat → Int32)} {M : (Nat → Nat → Int32)} {h : x_H} {mc : Nat} {ms : Nat} {x4 : Option Nat} {k n : Nat} {H : Heap} {locs : List Loc} {ls : Array Slot} (hR : x_R D s N0 (fixC ad F M ++ XF) h H) (hS : va_S (x_A N0) s.heap H locs) (hk : k + mc ≤ mc0) (hn : n + ms ≤ ms0) (hl : lv_has ls 5 [(0, .ref (ad 4)), (1, .ref (ad 3)), (2, .ref p2), (4, va_rf x4)]) (hw : wX4_read_b102 post K14 gp ad p2 F M h mc ms x4) : W p l e (rmX4_read mc0 ms0) s m args below meth c H locs k n (MQ below (x_Qc D N0 (x_Vi (qCi ad XF post))) args s mc0 ms0 (x_A N0)) (F0 m 102 ls []) := by
  obtain ⟨⟨hx, hb, hml, hown, hts⟩, hr, hlocks, hG, hN⟩ := id C
  unfold wX4_read_b102 at hw
  refine lv_aload_n hx hb dX4_read_102 rfl (lv_at hl 0 rfl) ?_
  refine x_get (ci := 3) (Cn := RX4) (T := TX4) (N := 5) (v := .int (F 204)) C (hR.rdX 2 rfl) rfl in_X4 4 (by decide) q301 (fun _ h9 => h9) rfl dX4_read_103 ?_
  refine lv_if_eq (tgt := 116) hx hb dX4_read_106 (by decide) (fun c150 => ?_) (fun c150 => ?_)
  · replace hw := hw.1 c150
    exact kX4_read_b116 C hK14 hR hS hk hn (lv_sub hl [0, 1, 2] rfl) hw
  · replace hw := hw.2 c150
    refine lv_aload_n hx hb dX4_read_109 rfl (lv_at hl 2 rfl) ?_
    refine x_aloadO hx hb dX4_read_110 (lv_at hl 3 rfl) ?_
    obtain ⟨a151, ea151, hw⟩ := hw
    rw [ea151]
    obtain ⟨t158, fs159, he160, hw⟩ := hw
    obtain ⟨ca153, cb154, mc155, ms156, hca153, hcb154, hw⟩ := hw
    refine x_calli (x_runV (n := 1) (As := [.ref a151]) C hR hS (kJ2_add l D N0 gp _ p2 a151 h ca153 cb154 _ hw) (lw_V q691 q177 q178 q88 q179) rfl rfl (by decide +kernel) ⟨Nat.le_of_ble_eq_true rfl, Nat.le_of_ble_eq_true rfl⟩ (x_recv C (hR.rdH he160) rfl) rfl hl.1 rfl (Nat.le_of_ble_eq_true rfl) dX4_read_112 ⟨x_bud hk hca153, x_bud hn hcb154⟩) hS (fun r152 X1 h157 H locs hq hR hS => ?_)
    clear hw
    obtain ⟨e1, hw⟩ := hq
    rw [e1] at hR
    have hk := x_budN hk hca153
    have hn := x_budN hn hcb154
    refine lv_pop hx hb dX4_read_115 rfl ?_
    exact kX4_read_b116 C hK14 hR hS hk hn (lv_sub hl [0, 1, 2] rfl) hw
def wX4_read_b147 (post : Int32 → (Nat → Int32) → (Nat → Nat → Int32) → x_H → Prop) (K14 : (Nat → Int32) → (Nat → Nat → Int32) → x_H → Nat → Nat → Prop) (gp : Nat → Nat) (ad : Nat → Nat) (p2 : Nat) (F : (Nat → Int32)) (M : (Nat → Nat → Int32)) (h : x_H) (mc : Nat) (ms : Nat) (x3 : Int32) (s0 : Int32) : Prop :=
  x_bit s0 ∧ (s0 = 0 → wX4_read_b204 post K14 gp ad p2 (upd F 204 s0) M h mc ms) ∧ (¬ s0 = 0 → wX2_resize (fun F163 M163 h164 => wX4_read_b204 post K14 gp ad p2 F163 M163 h164 mc ms) ad (x3 - 32) (upd F 204 s0) M h)
theorem kX4_read_b147 {post : Int32 → (Nat → Int32) → (Nat → Nat → Int32) → x_H → Prop} {K14 : (Nat → Int32) → (Nat → Nat → Int32) → x_H → Nat → Nat → Prop} {p2 : Nat} (C : x_C p s m args meth c cX4_read 5 (some .boolean) RX4 D N0 gp) (hK14 : ∀ (F : (Nat → Int32)) (M : (Nat → Nat → Int32)) (h : x_H) (mc : Nat) (ms : Nat) (k n : Nat) (H : Heap) (locs : List Loc) (ls : Array Slot), x_R D s N0 (fixC ad F M ++ XF) h H → va_S (x_A N0) s.heap H locs → k + mc ≤ mc0 → n + ms ≤ ms0 → lv_has ls 5 [(0, .ref (ad 4)), (1, .ref (ad 3)), (2, .ref p2)] → K14 F M h mc ms → W p l e (rmX4_read mc0 ms0) s m args below meth c H locs k n (MQ below (x_Qc D N0 (x_Vi (qCi ad XF post))) args s mc0 ms0 (x_A N0)) (F0 m 14 ls [])) {F : (Nat → Int32)} {M : (Nat → Nat → Int32)} {h : x_H} {mc : Nat} {ms : Nat} {x3 : Int32} {s0 : Int32} {k n : Nat} {H : Heap} {locs : List Loc} {ls : Array Slot} (hR : x_R D s N0 (fixC ad F M ++ XF) h H) (hS : va_S (x_A N0) s.heap H locs) (hk : k + mc ≤ mc0) (hn : n + ms ≤ ms0) (hl : lv_has ls 5 [(0, .ref (ad 4)), (1, .ref (ad 3)), (2, .ref p2), (3, .int x3)]) (hw : wX4_read_b147 post K14 gp ad p2 F M h mc ms x3 s0) : W p l e (rmX4_read mc0 ms0) s m args below meth c H locs k n (MQ below (x_Qc D N0 (x_Vi (qCi ad XF post))) args s mc0 ms0 (x_A N0)) (F0 m 147 ls [.int s0, .ref (ad 4)]) := by
  obtain ⟨⟨hx, hb, hml, hown, hts⟩, hr, hlocks, hG, hN⟩ := id C
  unfold wX4_read_b147 at hw
  obtain ⟨z161, hw⟩ := hw
  refine x_putX (ci := 3) (Cn := RX4) (T := TX4) (N := 5) (v := .int s0) C hR hS 2 rfl rfl in_X4 tyX4_ok nmX4 4 (by decide) q301 (fun _ h9 => h9) rfl (x_bitN z161) (x_bitF z161) (Nat.le_of_ble_eq_true rfl) (sC_f204 ..) dX4_read_147 (fun H locs hR hS => ?_)
  refine lv_aload_n hx hb dX4_read_150 rfl (lv_at hl 0 rfl) ?_
  refine x_get (ci := 3) (Cn := RX4) (T := TX4) (N := 5) (v := .int s0) C (hR.rdX 2 rfl) rfl in_X4 4 (by decide) q301 (fun _ h9 => h9) rfl dX4_read_151 ?_
  refine lv_if_eq (tgt := 204) hx hb dX4_read_154 (by decide) (fun c162 => ?_) (fun c162 => ?_)
  · replace hw := hw.1 c162
    exact kX4_read_b204 C hK14 hR hS hk hn (lv_sub hl [0, 1, 2] rfl) hw
  · replace hw := hw.2 c162
    refine lv_aload_n hx hb dX4_read_157 rfl (lv_at hl 1 rfl) ?_
    refine lv_iload_n hx hb dX4_read_158 rfl (lv_at hl 3 rfl) ?_
    refine lv_bipush (v := 32) hx hb dX4_read_159 (by decide) ?_
    refine lv_isub hx hb dX4_read_161 ?_
    refine x_callv0 (x_runV (n := 1) (As := [.int (x3 - 32)]) C hR hS (kX2_resize l D N0 gp ad XF (x3 - 32) (upd F 204 s0) M h _ hw) (lw_V q984 q985 q986 q89 q987) rfl rfl (by decide +kernel) ⟨Nat.le_of_ble_eq_true rfl, Nat.le_of_ble_eq_true rfl⟩ (x_recv C (hR.rdX 1 rfl) rfl) rfl hl.1 rfl (Nat.le_of_ble_eq_true rfl) dX4_read_162 ⟨x_bud0 hk, x_bud0 hn⟩) hS (fun X1 h164 H locs hq hR hS => ?_)
    clear hw
    obtain ⟨F163, M163, e1, hw⟩ := hq
    rw [e1] at hR
    refine lv_goto (tgt := 204) hx hb dX4_read_165 (by decide) ?_
    exact kX4_read_b204 C hK14 hR hS hk hn (lv_sub hl [0, 1, 2] rfl) hw
def wX4_read_b146 (post : Int32 → (Nat → Int32) → (Nat → Nat → Int32) → x_H → Prop) (K14 : (Nat → Int32) → (Nat → Nat → Int32) → x_H → Nat → Nat → Prop) (gp : Nat → Nat) (ad : Nat → Nat) (p2 : Nat) (F : (Nat → Int32)) (M : (Nat → Nat → Int32)) (h : x_H) (mc : Nat) (ms : Nat) (x3 : Int32) : Prop :=
  wX4_read_b147 post K14 gp ad p2 F M h mc ms x3 0
theorem kX4_read_b146 {post : Int32 → (Nat → Int32) → (Nat → Nat → Int32) → x_H → Prop} {K14 : (Nat → Int32) → (Nat → Nat → Int32) → x_H → Nat → Nat → Prop} {p2 : Nat} (C : x_C p s m args meth c cX4_read 5 (some .boolean) RX4 D N0 gp) (hK14 : ∀ (F : (Nat → Int32)) (M : (Nat → Nat → Int32)) (h : x_H) (mc : Nat) (ms : Nat) (k n : Nat) (H : Heap) (locs : List Loc) (ls : Array Slot), x_R D s N0 (fixC ad F M ++ XF) h H → va_S (x_A N0) s.heap H locs → k + mc ≤ mc0 → n + ms ≤ ms0 → lv_has ls 5 [(0, .ref (ad 4)), (1, .ref (ad 3)), (2, .ref p2)] → K14 F M h mc ms → W p l e (rmX4_read mc0 ms0) s m args below meth c H locs k n (MQ below (x_Qc D N0 (x_Vi (qCi ad XF post))) args s mc0 ms0 (x_A N0)) (F0 m 14 ls [])) {F : (Nat → Int32)} {M : (Nat → Nat → Int32)} {h : x_H} {mc : Nat} {ms : Nat} {x3 : Int32} {k n : Nat} {H : Heap} {locs : List Loc} {ls : Array Slot} (hR : x_R D s N0 (fixC ad F M ++ XF) h H) (hS : va_S (x_A N0) s.heap H locs) (hk : k + mc ≤ mc0) (hn : n + ms ≤ ms0) (hl : lv_has ls 5 [(0, .ref (ad 4)), (1, .ref (ad 3)), (2, .ref p2), (3, .int x3)]) (hw : wX4_read_b146 post K14 gp ad p2 F M h mc ms x3) : W p l e (rmX4_read mc0 ms0) s m args below meth c H locs k n (MQ below (x_Qc D N0 (x_Vi (qCi ad XF post))) args s mc0 ms0 (x_A N0)) (F0 m 146 ls [.ref (ad 4)]) := by
  obtain ⟨⟨hx, hb, hml, hown, hts⟩, hr, hlocks, hG, hN⟩ := id C
  unfold wX4_read_b146 at hw
  refine lv_iconst (v := 0) hx hb dX4_read_146 (by decide) ?_
  exact kX4_read_b147 C hK14 hR hS hk hn (lv_sub hl [0, 1, 2, 3] rfl) hw
def wX4_read_b207 (post : Int32 → (Nat → Int32) → (Nat → Nat → Int32) → x_H → Prop) (gp : Nat → Nat) (ad : Nat → Nat) (p2 : Nat) (F : (Nat → Int32)) (M : (Nat → Nat → Int32)) (h : x_H) (mc : Nat) (ms : Nat) : Prop :=
  narrow .boolean (.int (F 204)) = .int (F 204) ∧ post (F 204) F M h
theorem kX4_read_b207 {post : Int32 → (Nat → Int32) → (Nat → Nat → Int32) → x_H → Prop} {p2 : Nat} (C : x_C p s m args meth c cX4_read 5 (some .boolean) RX4 D N0 gp) {F : (Nat → Int32)} {M : (Nat → Nat → Int32)} {h : x_H} {mc : Nat} {ms : Nat} {k n : Nat} {H : Heap} {locs : List Loc} {ls : Array Slot} (hR : x_R D s N0 (fixC ad F M ++ XF) h H) (hS : va_S (x_A N0) s.heap H locs) (hk : k + mc ≤ mc0) (hn : n + ms ≤ ms0) (hl : lv_has ls 5 [(0, .ref (ad 4))]) (hw : wX4_read_b207 post gp ad p2 F M h mc ms) : W p l e (rmX4_read mc0 ms0) s m args below meth c H locs k n (MQ below (x_Qc D N0 (x_Vi (qCi ad XF post))) args s mc0 ms0 (x_A N0)) (F0 m 207 ls []) := by
  obtain ⟨⟨hx, hb, hml, hown, hts⟩, hr, hlocks, hG, hN⟩ := id C
  unfold wX4_read_b207 at hw
  refine lv_aload_n hx hb dX4_read_207 rfl (lv_at hl 0 rfl) ?_
  refine x_get (ci := 3) (Cn := RX4) (T := TX4) (N := 5) (v := .int (F 204)) C (hR.rdX 2 rfl) rfl in_X4 4 (by decide) q301 (fun _ h9 => h9) rfl dX4_read_208 ?_
  obtain ⟨hz, hw⟩ := hw
  exact x_endz C hR hS hz ⟨_, rfl, ⟨_, _, rfl, hw⟩⟩ (x_le hk) (x_le hn) dX4_read_211
def tX4_read_b14 (post : Int32 → (Nat → Int32) → (Nat → Nat → Int32) → x_H → Prop) (K14 : (Nat → Int32) → (Nat → Nat → Int32) → x_H → Nat → Nat → Prop) (gp : Nat → Nat) (ad : Nat → Nat) (p2 : Nat) (F : (Nat → Int32)) (M : (Nat → Nat → Int32)) (h : x_H) (mc : Nat) (ms : Nat) : Prop :=
  ((F 204) = 0 → wX4_read_b207 post gp ad p2 F M h mc ms) ∧ (¬ (F 204) = 0 → ((F 202) ≤ (F 203) → wX4_read_b207 post gp ad p2 F M h mc ms) ∧ (¬ (F 202) ≤ (F 203) → wX4_next (fun r90 F91 M91 h92 => (r90 ≤ 127 → (r90 ≤ 63 → (r90 ≤ 31 → (r90 ≤ 15 → ∃ ca98 cb99 mc100 ms101 : Nat, ca98 + mc100 ≤ mc ∧ cb99 + ms101 ≤ ms ∧ wX4_literal (fun r97 F102 M102 h103 => ((F102 204) = 0 → wX4_read_b204 post K14 gp ad p2 F102 M102 h103 mc100 ms101) ∧ (¬ (F102 204) = 0 → ∃ a105 : Nat, r97 = some a105 ∧ ∃ (t112 : Nat) (fs113 : List Value), h103 p2 = some (t112, .inr (7, fs113)) ∧ ∃ ca107 cb108 mc109 ms110 : Nat, ca107 + mc109 ≤ mc100 ∧ cb108 + ms110 ≤ ms101 ∧ wJ2_add (fun r106 h111 => wX4_read_b204 post K14 gp ad p2 F102 M102 h111 mc109 ms110) gp p2 a105 h103 ca107 cb108)) gp ad r90 F91 M91 h92 ca98 cb99) ∧ (¬ r90 ≤ 15 → wX4_read_b204 post K14 gp ad p2 (upd F91 204 0) M91 h92 mc ms)) ∧ (¬ r90 ≤ 31 → ∃ (t116 : Nat) (fs117 : List Value), h92 p2 = some (t116, .inr (7, fs117)) ∧ wJ2_size (fun r115 => (r115 = 0 → ((24 : Int32) < (r90 - 32) → wX4_read_b146 post K14 gp ad p2 F91 M91 h92 mc ms r90) ∧ (¬ (24 : Int32) < (r90 - 32) → wX4_read_b147 post K14 gp ad p2 F91 M91 h92 mc ms r90 1)) ∧ (¬ r115 = 0 → wX4_read_b146 post K14 gp ad p2 F91 M91 h92 mc ms r90)) p2 h92)) ∧ (¬ r90 ≤ 63 → ∃ ca122 cb123 mc124 ms125 : Nat, ca122 + mc124 ≤ mc ∧ cb123 + ms125 ≤ ms ∧ wX4_literal (fun r121 F126 M126 h127 => ((F126 204) = 0 → wX4_read_b102 post K14 gp ad p2 F126 M126 h127 mc124 ms125 r121) ∧ (¬ (F126 204) = 0 → ∃ a129 : Nat, r121 = some a129 ∧ ∃ ca130 cb131 mc132 ms133 : Nat, ca130 + mc132 ≤ mc124 ∧ cb131 + ms133 ≤ ms125 ∧ wX2_add (fun F134 M134 h135 => wX4_read_b102 post K14 gp ad p2 F134 M134 h135 mc132 ms133 r121) gp ad a129 F126 M126 h127 ca130 cb131)) gp ad (r90 - 64) F91 M91 h92 ca122 cb123)) ∧ (¬ r90 ≤ 127 → wX4_known (fun r136 F137 M137 h138 => ((F137 204) = 0 → wX4_read_b69 post K14 gp ad p2 F137 M137 h138 mc ms) ∧ (¬ (F137 204) = 0 → ∃ a140 : Nat, r136 = some a140 ∧ ∃ (t147 : Nat) (fs148 : List Value), h138 p2 = some (t147, .inr (7, fs148)) ∧ ∃ ca142 cb143 mc144 ms145 : Nat, ca142 + mc144 ≤ mc ∧ cb143 + ms145 ≤ ms ∧ wJ2_add (fun r141 h146 => wX4_read_b69 post K14 gp ad p2 F137 M137 h146 mc144 ms145) gp p2 a140 h138 ca142 cb143)) ad (r90 - 128) F91 M91 h92)) ad F M h))
def wX4_read_b14 (post : Int32 → (Nat → Int32) → (Nat → Nat → Int32) → x_H → Prop) (gp : Nat → Nat) (ad : Nat → Nat) (p2 : Nat) : Nat → (Nat → Int32) → (Nat → Nat → Int32) → x_H → Nat → Nat → Prop
  | 0 => fun _ _ _ _ _ => False
  | n + 1 => fun F M h mc ms => tX4_read_b14 post (wX4_read_b14 post gp ad p2 n) gp ad p2 F M h mc ms
theorem kX4_read_b14 {post : Int32 → (Nat → Int32) → (Nat → Nat → Int32) → x_H → Prop} {p2 : Nat} (C : x_C p s m args meth c cX4_read 5 (some .boolean) RX4 D N0 gp) : ∀ (nn : Nat) (F : (Nat → Int32)) (M : (Nat → Nat → Int32)) (h : x_H) (mc : Nat) (ms : Nat) (k n : Nat) (H : Heap) (locs : List Loc) (ls : Array Slot), x_R D s N0 (fixC ad F M ++ XF) h H → va_S (x_A N0) s.heap H locs → k + mc ≤ mc0 → n + ms ≤ ms0 → lv_has ls 5 [(0, .ref (ad 4)), (1, .ref (ad 3)), (2, .ref p2)] → wX4_read_b14 post gp ad p2 nn F M h mc ms → W p l e (rmX4_read mc0 ms0) s m args below meth c H locs k n (MQ below (x_Qc D N0 (x_Vi (qCi ad XF post))) args s mc0 ms0 (x_A N0)) (F0 m 14 ls []) := by
  obtain ⟨⟨hx, hb, hml, hown, hts⟩, hr, hlocks, hG, hN⟩ := id C
  intro nn
  induction nn with
  | zero =>
    intro F M h mc ms k n H locs ls hR hS hk hn hl hw
    exact False.elim hw
  | succ nn ih =>
    intro F M h mc ms k n H locs ls hR hS hk hn hl hw
    have hK14 := ih
    replace hw : tX4_read_b14 post (wX4_read_b14 post gp ad p2 nn) gp ad p2 F M h mc ms := hw
    unfold tX4_read_b14 at hw
    refine lv_aload_n hx hb dX4_read_14 rfl (lv_at hl 0 rfl) ?_
    refine x_get (ci := 3) (Cn := RX4) (T := TX4) (N := 5) (v := .int (F 204)) C (hR.rdX 2 rfl) rfl in_X4 4 (by decide) q301 (fun _ h9 => h9) rfl dX4_read_15 ?_
    refine lv_if_eq (tgt := 207) hx hb dX4_read_18 (by decide) (fun c88 => ?_) (fun c88 => ?_)
    · replace hw := hw.1 c88
      exact kX4_read_b207 C hR hS hk hn (lv_sub hl [0] rfl) hw
    · replace hw := hw.2 c88
      refine lv_aload_n hx hb dX4_read_21 rfl (lv_at hl 0 rfl) ?_
      refine x_get (ci := 3) (Cn := RX4) (T := TX4) (N := 5) (v := .int (F 203)) C (hR.rdX 2 rfl) rfl in_X4 3 (by decide) q300 (fun _ h9 => h9) rfl dX4_read_22 ?_
      refine lv_aload_n hx hb dX4_read_25 rfl (lv_at hl 0 rfl) ?_
      refine x_get (ci := 3) (Cn := RX4) (T := TX4) (N := 5) (v := .int (F 202)) C (hR.rdX 2 rfl) rfl in_X4 2 (by decide) q298 (fun _ h9 => h9) rfl dX4_read_26 ?_
      refine lv_icmp_ge (tgt := 207) hx hb dX4_read_29 (by decide) (fun c89 => ?_) (fun c89 => ?_)
      · replace hw := hw.1 c89
        exact kX4_read_b207 C hR hS hk hn (lv_sub hl [0] rfl) hw
      · replace hw := hw.2 c89
        refine lv_aload_n hx hb dX4_read_32 rfl (lv_at hl 0 rfl) ?_
        refine x_calli0 (x_runV (n := 0) (As := []) C hR hS (kX4_next l D N0 gp ad XF F M h _ hw) (lw_V q677 q678 q679 q96 q680) rfl rfl (by decide +kernel) ⟨Nat.le_of_ble_eq_true rfl, Nat.le_of_ble_eq_true rfl⟩ (x_recv C (hR.rdX 2 rfl) rfl) rfl hl.1 rfl (Nat.le_of_ble_eq_true rfl) dX4_read_33 ⟨x_bud0 hk, x_bud0 hn⟩) hS (fun r90 X1 h92 H locs hq hR hS => ?_)
        clear hw
        obtain ⟨F91, M91, e1, hw⟩ := hq
        rw [e1] at hR
        refine lv_istore_n (lv' := [(3, .int r90), (0, .ref (ad 4)), (1, .ref (ad 3)), (2, .ref p2)]) hx hb dX4_read_36 rfl hl (by decide) rfl (fun ls hl => ?_)
        refine lv_iload_n hx hb dX4_read_37 rfl (lv_at hl 0 rfl) ?_
        refine lv_bipush (v := 127) hx hb dX4_read_38 (by decide) ?_
        refine lv_icmp_le (tgt := 72) hx hb dX4_read_40 (by decide) (fun c93 => ?_) (fun c93 => ?_)
        · replace hw := hw.1 c93
          refine lv_iload_n hx hb dX4_read_72 rfl (lv_at hl 0 rfl) ?_
          refine lv_bipush (v := 63) hx hb dX4_read_73 (by decide) ?_
          refine lv_icmp_le (tgt := 119) hx hb dX4_read_75 (by decide) (fun c94 => ?_) (fun c94 => ?_)
          · replace hw := hw.1 c94
            refine lv_iload_n hx hb dX4_read_119 rfl (lv_at hl 0 rfl) ?_
            refine lv_bipush (v := 31) hx hb dX4_read_120 (by decide) ?_
            refine lv_icmp_le (tgt := 168) hx hb dX4_read_122 (by decide) (fun c95 => ?_) (fun c95 => ?_)
            · replace hw := hw.1 c95
              refine lv_iload_n hx hb dX4_read_168 rfl (lv_at hl 0 rfl) ?_
              refine lv_bipush (v := 15) hx hb dX4_read_169 (by decide) ?_
              refine lv_icmp_le (tgt := 182) hx hb dX4_read_171 (by decide) (fun c96 => ?_) (fun c96 => ?_)
              · replace hw := hw.1 c96
                refine lv_aload_n hx hb dX4_read_182 rfl (lv_at hl 1 rfl) ?_
                refine lv_aload_n hx hb dX4_read_183 rfl (lv_at hl 2 rfl) ?_
                refine lv_iload_n hx hb dX4_read_184 rfl (lv_at hl 0 rfl) ?_
                obtain ⟨ca98, cb99, mc100, ms101, hca98, hcb99, hw⟩ := hw
                refine x_calla (x_runV (n := 2) (As := [.ref (ad 3), .int r90]) C hR hS (kX4_literal l D N0 gp ad XF r90 F91 M91 h92 ca98 cb99 _ hw) (lw_V q692 q694 qs27 q96 q695) rfl rfl (by decide +kernel) ⟨Nat.le_of_ble_eq_true rfl, Nat.le_of_ble_eq_true rfl⟩ (x_recv C (hR.rdX 2 rfl) rfl) rfl hl.1 rfl (Nat.le_of_ble_eq_true rfl) dX4_read_185 ⟨x_bud hk hca98, x_bud hn hcb99⟩) hS (fun r97 X1 h103 H locs hq hR hS => ?_)
                clear hw
                obtain ⟨F102, M102, e1, hw⟩ := hq
                rw [e1] at hR
                have hk := x_budN hk hca98
                have hn := x_budN hn hcb99
                refine x_astoreO (lv' := [(4, va_rf r97), (3, .int r90), (0, .ref (ad 4)), (1, .ref (ad 3)), (2, .ref p2)]) hx hb dX4_read_188 hl (by decide) rfl (fun ls hl => ?_)
                refine lv_aload_n hx hb dX4_read_190 rfl (lv_at hl 2 rfl) ?_
                refine x_get (ci := 3) (Cn := RX4) (T := TX4) (N := 5) (v := .int (F102 204)) C (hR.rdX 2 rfl) rfl in_X4 4 (by decide) q301 (fun _ h9 => h9) rfl dX4_read_191 ?_
                refine lv_if_eq (tgt := 204) hx hb dX4_read_194 (by decide) (fun c104 => ?_) (fun c104 => ?_)
                · replace hw := hw.1 c104
                  exact kX4_read_b204 C hK14 hR hS hk hn (lv_sub hl [2, 3, 4] rfl) hw
                · replace hw := hw.2 c104
                  refine lv_aload_n hx hb dX4_read_197 rfl (lv_at hl 4 rfl) ?_
                  refine x_aloadO hx hb dX4_read_198 (lv_at hl 0 rfl) ?_
                  obtain ⟨a105, ea105, hw⟩ := hw
                  rw [ea105]
                  obtain ⟨t112, fs113, he114, hw⟩ := hw
                  obtain ⟨ca107, cb108, mc109, ms110, hca107, hcb108, hw⟩ := hw
                  refine x_calli (x_runV (n := 1) (As := [.ref a105]) C hR hS (kJ2_add l D N0 gp _ p2 a105 h103 ca107 cb108 _ hw) (lw_V q691 q177 q178 q88 q179) rfl rfl (by decide +kernel) ⟨Nat.le_of_ble_eq_true rfl, Nat.le_of_ble_eq_true rfl⟩ (x_recv C (hR.rdH he114) rfl) rfl hl.1 rfl (Nat.le_of_ble_eq_true rfl) dX4_read_200 ⟨x_bud hk hca107, x_bud hn hcb108⟩) hS (fun r106 X1 h111 H locs hq hR hS => ?_)
                  clear hw
                  obtain ⟨e1, hw⟩ := hq
                  rw [e1] at hR
                  have hk := x_budN hk hca107
                  have hn := x_budN hn hcb108
                  refine lv_pop hx hb dX4_read_203 rfl ?_
                  exact kX4_read_b204 C hK14 hR hS hk hn (lv_sub hl [2, 3, 4] rfl) hw
              · replace hw := hw.2 c96
                refine lv_aload_n hx hb dX4_read_174 rfl (lv_at hl 1 rfl) ?_
                refine lv_iconst (v := 0) hx hb dX4_read_175 (by decide) ?_
                refine x_putX (ci := 3) (Cn := RX4) (T := TX4) (N := 5) (v := .int 0) C hR hS 2 rfl rfl in_X4 tyX4_ok nmX4 4 (by decide) q301 (fun _ h9 => h9) rfl rfl rfl (Nat.le_of_ble_eq_true rfl) (sC_f204 ..) dX4_read_176 (fun H locs hR hS => ?_)
                refine lv_goto (tgt := 204) hx hb dX4_read_179 (by decide) ?_
                exact kX4_read_b204 C hK14 hR hS hk hn (lv_sub hl [1, 2, 3] rfl) hw
            · replace hw := hw.2 c95
              refine lv_aload_n hx hb dX4_read_125 rfl (lv_at hl 1 rfl) ?_
              refine lv_aload_n hx hb dX4_read_126 rfl (lv_at hl 3 rfl) ?_
              obtain ⟨t116, fs117, he118, hw⟩ := hw
              refine x_calli0 (x_runV (n := 0) (As := []) C hR hS (kJ2_size l D N0 gp _ p2 h92 _ hw) (lw_V q983 q359 q360 q88 q361) rfl rfl (by decide +kernel) ⟨Nat.le_of_ble_eq_true rfl, Nat.le_of_ble_eq_true rfl⟩ (x_recv C (hR.rdH he118) rfl) rfl hl.1 rfl (Nat.le_of_ble_eq_true rfl) dX4_read_127 ⟨x_bud0 hk, x_bud0 hn⟩) hS (fun r115 X1 h1 H locs hq hR hS => ?_)
              clear hw
              obtain ⟨e1, e2, hw⟩ := hq
              rw [e1, e2] at hR
              refine lv_if_ne (tgt := 146) hx hb dX4_read_130 (by decide) (fun c119 => ?_) (fun c119 => ?_)
              · replace hw := hw.2 c119
                exact kX4_read_b146 C hK14 hR hS hk hn (lv_sub hl [1, 2, 3, 0] rfl) hw
              · replace hw := hw.1 c119
                refine lv_iload_n hx hb dX4_read_133 rfl (lv_at hl 0 rfl) ?_
                refine lv_bipush (v := 32) hx hb dX4_read_134 (by decide) ?_
                refine lv_isub hx hb dX4_read_136 ?_
                refine lv_bipush (v := 24) hx hb dX4_read_137 (by decide) ?_
                refine lv_icmp_gt (tgt := 146) hx hb dX4_read_139 (by decide) (fun c120 => ?_) (fun c120 => ?_)
                · replace hw := hw.1 c120
                  exact kX4_read_b146 C hK14 hR hS hk hn (lv_sub hl [1, 2, 3, 0] rfl) hw
                · replace hw := hw.2 c120
                  refine lv_iconst (v := 1) hx hb dX4_read_142 (by decide) ?_
                  refine lv_goto (tgt := 147) hx hb dX4_read_143 (by decide) ?_
                  exact kX4_read_b147 C hK14 hR hS hk hn (lv_sub hl [1, 2, 3, 0] rfl) hw
          · replace hw := hw.2 c94
            refine lv_aload_n hx hb dX4_read_78 rfl (lv_at hl 1 rfl) ?_
            refine lv_aload_n hx hb dX4_read_79 rfl (lv_at hl 2 rfl) ?_
            refine lv_iload_n hx hb dX4_read_80 rfl (lv_at hl 0 rfl) ?_
            refine lv_bipush (v := 64) hx hb dX4_read_81 (by decide) ?_
            refine lv_isub hx hb dX4_read_83 ?_
            obtain ⟨ca122, cb123, mc124, ms125, hca122, hcb123, hw⟩ := hw
            refine x_calla (x_runV (n := 2) (As := [.ref (ad 3), .int (r90 - 64)]) C hR hS (kX4_literal l D N0 gp ad XF (r90 - 64) F91 M91 h92 ca122 cb123 _ hw) (lw_V q692 q694 qs27 q96 q695) rfl rfl (by decide +kernel) ⟨Nat.le_of_ble_eq_true rfl, Nat.le_of_ble_eq_true rfl⟩ (x_recv C (hR.rdX 2 rfl) rfl) rfl hl.1 rfl (Nat.le_of_ble_eq_true rfl) dX4_read_84 ⟨x_bud hk hca122, x_bud hn hcb123⟩) hS (fun r121 X1 h127 H locs hq hR hS => ?_)
            clear hw
            obtain ⟨F126, M126, e1, hw⟩ := hq
            rw [e1] at hR
            have hk := x_budN hk hca122
            have hn := x_budN hn hcb123
            refine x_astoreO (lv' := [(4, va_rf r121), (3, .int r90), (0, .ref (ad 4)), (1, .ref (ad 3)), (2, .ref p2)]) hx hb dX4_read_87 hl (by decide) rfl (fun ls hl => ?_)
            refine lv_aload_n hx hb dX4_read_89 rfl (lv_at hl 2 rfl) ?_
            refine x_get (ci := 3) (Cn := RX4) (T := TX4) (N := 5) (v := .int (F126 204)) C (hR.rdX 2 rfl) rfl in_X4 4 (by decide) q301 (fun _ h9 => h9) rfl dX4_read_90 ?_
            refine lv_if_eq (tgt := 102) hx hb dX4_read_93 (by decide) (fun c128 => ?_) (fun c128 => ?_)
            · replace hw := hw.1 c128
              exact kX4_read_b102 C hK14 hR hS hk hn (lv_sub hl [2, 3, 4, 0] rfl) hw
            · replace hw := hw.2 c128
              refine lv_aload_n hx hb dX4_read_96 rfl (lv_at hl 3 rfl) ?_
              refine x_aloadO hx hb dX4_read_97 (lv_at hl 0 rfl) ?_
              obtain ⟨a129, ea129, hw⟩ := hw
              rw [ea129]
              obtain ⟨ca130, cb131, mc132, ms133, hca130, hcb131, hw⟩ := hw
              refine x_callv (x_runV (n := 1) (As := [.ref a129]) C hR hS (kX2_add l D N0 gp ad XF a129 F126 M126 h127 ca130 cb131 _ hw) (lw_V q957 q958 q959 q89 q960) rfl rfl (by decide +kernel) ⟨Nat.le_of_ble_eq_true rfl, Nat.le_of_ble_eq_true rfl⟩ (x_recv C (hR.rdX 1 rfl) rfl) rfl hl.1 rfl (Nat.le_of_ble_eq_true rfl) dX4_read_99 ⟨x_bud hk hca130, x_bud hn hcb131⟩) hS (fun X1 h135 H locs hq hR hS => ?_)
              clear hw
              obtain ⟨F134, M134, e1, hw⟩ := hq
              rw [e1] at hR
              have hk := x_budN hk hca130
              have hn := x_budN hn hcb131
              exact kX4_read_b102 C hK14 hR hS hk hn (lv_sub hl [2, 3, 4, 0] rfl) hw
        · replace hw := hw.2 c93
          refine lv_aload_n hx hb dX4_read_43 rfl (lv_at hl 1 rfl) ?_
          refine lv_aload_n hx hb dX4_read_44 rfl (lv_at hl 2 rfl) ?_
          refine lv_iload_n hx hb dX4_read_45 rfl (lv_at hl 0 rfl) ?_
          refine lv_sipush (v := 128) hx hb dX4_read_46 (by decide) ?_
          refine lv_isub hx hb dX4_read_49 ?_
          refine x_calla0 (x_runV (n := 2) (As := [.ref (ad 3), .int (r90 - 128)]) C hR hS (kX4_known l D N0 gp ad XF (r90 - 128) F91 M91 h92 _ hw) (lw_V q681 q683 qs26 q96 q684) rfl rfl (by decide +kernel) ⟨Nat.le_of_ble_eq_true rfl, Nat.le_of_ble_eq_true rfl⟩ (x_recv C (hR.rdX 2 rfl) rfl) rfl hl.1 rfl (Nat.le_of_ble_eq_true rfl) dX4_read_50 ⟨x_bud0 hk, x_bud0 hn⟩) hS (fun r136 X1 h138 H locs hq hR hS => ?_)
          clear hw
          obtain ⟨F137, M137, e1, hw⟩ := hq
          rw [e1] at hR
          refine x_astoreO (lv' := [(4, va_rf r136), (3, .int r90), (0, .ref (ad 4)), (1, .ref (ad 3)), (2, .ref p2)]) hx hb dX4_read_53 hl (by decide) rfl (fun ls hl => ?_)
          refine lv_aload_n hx hb dX4_read_55 rfl (lv_at hl 2 rfl) ?_
          refine x_get (ci := 3) (Cn := RX4) (T := TX4) (N := 5) (v := .int (F137 204)) C (hR.rdX 2 rfl) rfl in_X4 4 (by decide) q301 (fun _ h9 => h9) rfl dX4_read_56 ?_
          refine lv_if_eq (tgt := 69) hx hb dX4_read_59 (by decide) (fun c139 => ?_) (fun c139 => ?_)
          · replace hw := hw.1 c139
            exact kX4_read_b69 C hK14 hR hS hk hn (lv_sub hl [2, 3, 4] rfl) hw
          · replace hw := hw.2 c139
            refine lv_aload_n hx hb dX4_read_62 rfl (lv_at hl 4 rfl) ?_
            refine x_aloadO hx hb dX4_read_63 (lv_at hl 0 rfl) ?_
            obtain ⟨a140, ea140, hw⟩ := hw
            rw [ea140]
            obtain ⟨t147, fs148, he149, hw⟩ := hw
            obtain ⟨ca142, cb143, mc144, ms145, hca142, hcb143, hw⟩ := hw
            refine x_calli (x_runV (n := 1) (As := [.ref a140]) C hR hS (kJ2_add l D N0 gp _ p2 a140 h138 ca142 cb143 _ hw) (lw_V q691 q177 q178 q88 q179) rfl rfl (by decide +kernel) ⟨Nat.le_of_ble_eq_true rfl, Nat.le_of_ble_eq_true rfl⟩ (x_recv C (hR.rdH he149) rfl) rfl hl.1 rfl (Nat.le_of_ble_eq_true rfl) dX4_read_65 ⟨x_bud hk hca142, x_bud hn hcb143⟩) hS (fun r141 X1 h146 H locs hq hR hS => ?_)
            clear hw
            obtain ⟨e1, hw⟩ := hq
            rw [e1] at hR
            have hk := x_budN hk hca142
            have hn := x_budN hn hcb143
            refine lv_pop hx hb dX4_read_68 rfl ?_
            exact kX4_read_b69 C hK14 hR hS hk hn (lv_sub hl [2, 3, 4] rfl) hw
end
def wX4_read (post : Int32 → (Nat → Int32) → (Nat → Nat → Int32) → x_H → Prop) (gp : Nat → Nat) (ad : Nat → Nat) (p2 : Nat) (F : (Nat → Int32)) (M : (Nat → Nat → Int32)) (h : x_H) (mc : Nat) (ms : Nat) : Prop :=
  ∃ (t84 : Nat) (fs85 : List Value), h p2 = some (t84, .inr (7, fs85)) ∧ wJ2_clear (fun h83 => ∃ n87 : Nat, wX4_read_b14 post gp ad p2 n87 (upd (upd F 203 0) 204 1) M h83 mc ms) p2 h
theorem kX4_read (l : Launch) (D : va_G) (N0 : Nat) (gp : Nat → Nat) (ad : Nat → Nat) (XF : x_X) (p2 : Nat) (F : (Nat → Int32)) (M : (Nat → Nat → Int32)) (h : x_H) (mc : Nat) (ms : Nat) (post : Int32 → (Nat → Int32) → (Nat → Nat → Int32) → x_H → Prop) (hw : wX4_read post gp ad p2 F M h mc ms) : Met l yX4_read (ws_ yX4_read cX4_read 5 (some .boolean)) (rmX4_read mc ms) (x_Pc D N0 gp (fixC ad F M ++ XF) h [.ref (ad 4), .ref (ad 3), .ref p2]) (x_Qc D N0 (x_Vi (qCi ad XF post))) mc ms (x_A N0) := by
  refine x_start (lv := [(0, .ref (ad 4)), (1, .ref (ad 3)), (2, .ref p2)]) (by decide) rfl (Nat.le_of_ble_eq_true rfl) rfl ?_
  intro p e s m below meth c C hR ls hl
  have hS : va_S (x_A N0) s.heap s.heap [] := va_S.rf
  obtain ⟨⟨hx, hb, hml, hown, hts⟩, hr, hlocks, hG, hN⟩ := id C
  unfold wX4_read at hw
  have hk : 0 + mc ≤ mc := Nat.le_of_eq (Nat.zero_add _)
  have hn : 0 + ms ≤ ms := Nat.le_of_eq (Nat.zero_add _)
  refine lv_aload_n hx hb dX4_read_0 rfl (lv_at hl 0 rfl) ?_
  refine lv_iconst (v := 0) hx hb dX4_read_1 (by decide) ?_
  refine x_putX (ci := 3) (Cn := RX4) (T := TX4) (N := 5) (v := .int 0) C hR hS 2 rfl rfl in_X4 tyX4_ok nmX4 3 (by decide) q300 (fun _ h9 => h9) rfl rfl rfl (Nat.le_of_ble_eq_true rfl) (sC_f203 ..) dX4_read_2 (fun H locs hR hS => ?_)
  refine lv_aload_n hx hb dX4_read_5 rfl (lv_at hl 0 rfl) ?_
  refine lv_iconst (v := 1) hx hb dX4_read_6 (by decide) ?_
  refine x_putX (ci := 3) (Cn := RX4) (T := TX4) (N := 5) (v := .int 1) C hR hS 2 rfl rfl in_X4 tyX4_ok nmX4 4 (by decide) q301 (fun _ h9 => h9) rfl rfl rfl (Nat.le_of_ble_eq_true rfl) (sC_f204 ..) dX4_read_7 (fun H locs hR hS => ?_)
  refine lv_aload_n hx hb dX4_read_10 rfl (lv_at hl 2 rfl) ?_
  obtain ⟨t84, fs85, he86, hw⟩ := hw
  refine x_callv0 (x_runV (n := 0) (As := []) C hR hS (kJ2_clear l D N0 gp _ p2 h _ hw) (lw_V q676 q382 q383 q88 q384) rfl rfl (by decide +kernel) ⟨Nat.le_of_ble_eq_true rfl, Nat.le_of_ble_eq_true rfl⟩ (x_recv C (hR.rdH he86) rfl) rfl hl.1 rfl (Nat.le_of_ble_eq_true rfl) dX4_read_11 ⟨x_bud0 hk, x_bud0 hn⟩) hS (fun X1 h83 H locs hq hR hS => ?_)
  clear hw
  obtain ⟨e1, hw⟩ := hq
  rw [e1] at hR
  obtain ⟨n87, hw⟩ := hw
  exact kX4_read_b14 C n87 _ _ _ _ _ _ _ _ _ _ hR hS hk hn (lv_sub hl [0, 1, 2] rfl) hw
/-- PageServer.trailers(LPageServer$Stream;)V -/
abbrev rmX1_trailers (mc0 ms0 : Nat) : Room := { frames := 10, cells := mc0, slots := ms0, locals := 240 }
section
variable {p : Program} {l : Launch} {e : Env} {s : State} {m : MethodId} {args : Array Value} {below : List Frame} {meth : Method} {c : Code} {D : va_G} {N0 : Nat} {gp : Nat → Nat} {ad : Nat → Nat} {XF : x_X} {mc0 ms0 : Nat}
def wX1_trailers_b53 (post : (Nat → Int32) → (Nat → Nat → Int32) → x_H → Prop) (postX : String → (Nat → Int32) → (Nat → Nat → Int32) → x_H → Prop) (K11 : (Nat → Int32) → (Nat → Nat → Int32) → x_H → Nat → Nat → Int32 → Prop) (gp : Nat → Nat) (ad : Nat → Nat) (p1 : Nat) (F : (Nat → Int32)) (M : (Nat → Nat → Int32)) (h : x_H) (mc : Nat) (ms : Nat) (x2 : Int32) (s0 : Int32) : Prop :=
  ∃ ca73 cb74 mc75 ms76 : Nat, ca73 + mc75 ≤ mc ∧ cb74 + ms76 ≤ ms ∧ wX1_want (fun F77 M77 h78 => K11 F77 M77 h78 mc75 ms76 (x2 + 1)) postX ad s0 1 F M h ca73 cb74
theorem kX1_trailers_b53 {post : (Nat → Int32) → (Nat → Nat → Int32) → x_H → Prop} {postX : String → (Nat → Int32) → (Nat → Nat → Int32) → x_H → Prop} {K11 : (Nat → Int32) → (Nat → Nat → Int32) → x_H → Nat → Nat → Int32 → Prop} {p1 : Nat} (C : x_C p s m args meth c cX1_trailers 4 none RX1 D N0 gp) (hlt : l.stackTraces = false) (hxt : ∀ x ∈ c.exceptionTable.toList, False) (hK11 : ∀ (F : (Nat → Int32)) (M : (Nat → Nat → Int32)) (h : x_H) (mc : Nat) (ms : Nat) (x2 : Int32) (k n : Nat) (H : Heap) (locs : List Loc) (ls : Array Slot), x_R D s N0 (fixC ad F M ++ XF) h H → va_S (x_A N0) s.heap H locs → k + mc ≤ mc0 → n + ms ≤ ms0 → lv_has ls 4 [(0, .ref (ad 1000)), (1, .ref p1), (2, .int x2)] → K11 F M h mc ms x2 → W p l e (rmX1_trailers mc0 ms0) s m args below meth c H locs k n (vx_MQ below (x_Qc D N0 (x_Vv (qCv ad XF post))) (x_XC D N0 (qXC ad XF postX)) args s mc0 ms0 (x_A N0)) (F0 m 11 ls [])) {F : (Nat → Int32)} {M : (Nat → Nat → Int32)} {h : x_H} {mc : Nat} {ms : Nat} {x2 : Int32} {s0 : Int32} {k n : Nat} {H : Heap} {locs : List Loc} {ls : Array Slot} (hR : x_R D s N0 (fixC ad F M ++ XF) h H) (hS : va_S (x_A N0) s.heap H locs) (hk : k + mc ≤ mc0) (hn : n + ms ≤ ms0) (hl : lv_has ls 4 [(0, .ref (ad 1000)), (1, .ref p1), (2, .int x2)]) (hw : wX1_trailers_b53 post postX K11 gp ad p1 F M h mc ms x2 s0) : W p l e (rmX1_trailers mc0 ms0) s m args below meth c H locs k n (vx_MQ below (x_Qc D N0 (x_Vv (qCv ad XF post))) (x_XC D N0 (qXC ad XF postX)) args s mc0 ms0 (x_A N0)) (F0 m 53 ls [.int s0, .ref (ad 1000)]) := by
  obtain ⟨⟨hx, hb, hml, hown, hts⟩, hr, hlocks, hG, hN⟩ := id C
  unfold wX1_trailers_b53 at hw
  refine lv_iconst (v := 1) hx hb dX1_trailers_53 (by decide) ?_
  obtain ⟨ca73, cb74, mc75, ms76, hca73, hcb74, hw⟩ := hw
  refine x_callXv (x_runVX (n := 2) (As := [.int s0, .int 1]) C hR hS (kX1_want l D N0 gp ad XF s0 1 F M h ca73 cb74 _ _ hlt hw) (lw_V q606 q608 qs19 q85 q609) rfl rfl (by decide +kernel) ⟨Nat.le_of_ble_eq_true rfl, Nat.le_of_ble_eq_true rfl⟩ (x_recv C (hR.rdX 0 rfl) rfl) rfl hl.1 rfl (Nat.le_of_ble_eq_true rfl) dX1_trailers_54 ⟨x_bud hk hca73, x_bud hn hcb74⟩) hS (fun E9 ce9 q9 X9 h9 H9 locs9 hq9 hR9 hS9 hce9 hcv9 hcl9 => by obtain ⟨F9, M9, e9, hq9⟩ := hq9; rw [e9] at hR9; exact x_outX C hxt hR9 hS9 ⟨_, _, rfl, hq9⟩ hce9 hcv9 hcl9 (x_bud hk hca73) (x_bud hn hcb74)) (fun X1 h78 H locs hq hR hS => ?_)
  clear hw
  obtain ⟨F77, M77, e1, hw⟩ := hq
  rw [e1] at hR
  have hk := x_budN hk hca73
  have hn := x_budN hn hcb74
  refine lv_iinc (v := x2 + 1) (lv' := [(2, .int (x2 + 1)), (0, .ref (ad 1000)), (1, .ref p1)]) hx hb dX1_trailers_57 hl (k := 2) rfl (x_inc 1 1 (by decide)) (by decide) rfl (fun ls hl => ?_)
  refine lv_goto (tgt := 11) hx hb dX1_trailers_60 (by decide) ?_
  exact hK11 _ _ _ _ _ _ _ _ _ _ _ hR hS hk hn (lv_sub hl [1, 2, 0] rfl) hw
def wX1_trailers_b63 (post : (Nat → Int32) → (Nat → Nat → Int32) → x_H → Prop) (postX : String → (Nat → Int32) → (Nat → Nat → Int32) → x_H → Prop) (gp : Nat → Nat) (ad : Nat → Nat) (p1 : Nat) (F : (Nat → Int32)) (M : (Nat → Nat → Int32)) (h : x_H) (mc : Nat) (ms : Nat) : Prop :=
  ∃ ca79 cb80 mc81 ms82 : Nat, ca79 + mc81 ≤ mc ∧ cb80 + ms82 ≤ ms ∧ wX1_close (fun F83 M83 h84 => post F83 M83 h84) postX gp ad p1 F M h ca79 cb80
theorem kX1_trailers_b63 {post : (Nat → Int32) → (Nat → Nat → Int32) → x_H → Prop} {postX : String → (Nat → Int32) → (Nat → Nat → Int32) → x_H → Prop} {p1 : Nat} (C : x_C p s m args meth c cX1_trailers 4 none RX1 D N0 gp) (hlt : l.stackTraces = false) (hxt : ∀ x ∈ c.exceptionTable.toList, False) {F : (Nat → Int32)} {M : (Nat → Nat → Int32)} {h : x_H} {mc : Nat} {ms : Nat} {k n : Nat} {H : Heap} {locs : List Loc} {ls : Array Slot} (hR : x_R D s N0 (fixC ad F M ++ XF) h H) (hS : va_S (x_A N0) s.heap H locs) (hk : k + mc ≤ mc0) (hn : n + ms ≤ ms0) (hl : lv_has ls 4 [(0, .ref (ad 1000)), (1, .ref p1)]) (hw : wX1_trailers_b63 post postX gp ad p1 F M h mc ms) : W p l e (rmX1_trailers mc0 ms0) s m args below meth c H locs k n (vx_MQ below (x_Qc D N0 (x_Vv (qCv ad XF post))) (x_XC D N0 (qXC ad XF postX)) args s mc0 ms0 (x_A N0)) (F0 m 63 ls []) := by
  obtain ⟨⟨hx, hb, hml, hown, hts⟩, hr, hlocks, hG, hN⟩ := id C
  unfold wX1_trailers_b63 at hw
  refine lv_aload_n hx hb dX1_trailers_63 rfl (lv_at hl 0 rfl) ?_
  refine lv_aload_n hx hb dX1_trailers_64 rfl (lv_at hl 1 rfl) ?_
  obtain ⟨ca79, cb80, mc81, ms82, hca79, hcb80, hw⟩ := hw
  refine x_callXv (x_runVX (n := 1) (As := [.ref p1]) C hR hS (kX1_close l D N0 gp ad XF p1 F M h ca79 cb80 _ _ hlt hw) (lw_V q624 q626 qs20 q85 q627) rfl rfl (by decide +kernel) ⟨Nat.le_of_ble_eq_true rfl, Nat.le_of_ble_eq_true rfl⟩ (x_recv C (hR.rdX 0 rfl) rfl) rfl hl.1 rfl (Nat.le_of_ble_eq_true rfl) dX1_trailers_65 ⟨x_bud hk hca79, x_bud hn hcb80⟩) hS (fun E9 ce9 q9 X9 h9 H9 locs9 hq9 hR9 hS9 hce9 hcv9 hcl9 => by obtain ⟨F9, M9, e9, hq9⟩ := hq9; rw [e9] at hR9; exact x_outX C hxt hR9 hS9 ⟨_, _, rfl, hq9⟩ hce9 hcv9 hcl9 (x_bud hk hca79) (x_bud hn hcb80)) (fun X1 h84 H locs hq hR hS => ?_)
  clear hw
  obtain ⟨F83, M83, e1, hw⟩ := hq
  rw [e1] at hR
  have hk := x_budN hk hca79
  have hn := x_budN hn hcb80
  exact vx_ret (x_endv C hR hS ⟨rfl, ⟨_, _, rfl, hw⟩⟩ (x_le hk) (x_le hn) dX1_trailers_68)
def tX1_trailers_b11 (post : (Nat → Int32) → (Nat → Nat → Int32) → x_H → Prop) (postX : String → (Nat → Int32) → (Nat → Nat → Int32) → x_H → Prop) (K11 : (Nat → Int32) → (Nat → Nat → Int32) → x_H → Nat → Nat → Int32 → Prop) (gp : Nat → Nat) (ad : Nat → Nat) (p1 : Nat) (F : (Nat → Int32)) (M : (Nat → Nat → Int32)) (h : x_H) (mc : Nat) (ms : Nat) (x2 : Int32) : Prop :=
  ∃ (t51 : Nat) (fs52 : List Value), h (ad 5) = some (t51, .inr (7, fs52)) ∧ wJ2_size (fun r50 => (r50 ≤ x2 → wX1_trailers_b63 post postX gp ad p1 F M h mc ms) ∧ (¬ r50 ≤ x2 → ∃ (t56 : Nat) (fs57 : List Value), h (ad 5) = some (t56, .inr (7, fs57)) ∧ wJ2_get (fun r55 => ∃ a59 : Nat, r55 = some a59 ∧ ∃ (t60 : Nat) (fs61 : List Value), h a59 = some (t60, .inr (2, fs61)) ∧ ∃ (t64 : Nat) (fs65 : List Value), h a59 = some (t64, .inr (2, fs65)) ∧ wX3_name (fun r63 => ∃ a67 : Nat, r63 = some a67 ∧ ∃ (t69 : Nat) (fs70 : List Value), h a67 = some (t69, .inr (9, fs70)) ∧ wJ9_charAt (fun r68 => (r68 = 58 → wX1_trailers_b53 post postX K11 gp ad p1 F M h mc ms x2 0) ∧ (¬ r68 = 58 → wX1_trailers_b53 post postX K11 gp ad p1 F M h mc ms x2 1)) gp a67 0 h) a59 h) (ad 5) x2 h)) (ad 5) h
def wX1_trailers_b11 (post : (Nat → Int32) → (Nat → Nat → Int32) → x_H → Prop) (postX : String → (Nat → Int32) → (Nat → Nat → Int32) → x_H → Prop) (gp : Nat → Nat) (ad : Nat → Nat) (p1 : Nat) : Nat → (Nat → Int32) → (Nat → Nat → Int32) → x_H → Nat → Nat → Int32 → Prop
  | 0 => fun _ _ _ _ _ _ => False
  | n + 1 => fun F M h mc ms x2 => tX1_trailers_b11 post postX (wX1_trailers_b11 post postX gp ad p1 n) gp ad p1 F M h mc ms x2
theorem kX1_trailers_b11 {post : (Nat → Int32) → (Nat → Nat → Int32) → x_H → Prop} {postX : String → (Nat → Int32) → (Nat → Nat → Int32) → x_H → Prop} {p1 : Nat} (C : x_C p s m args meth c cX1_trailers 4 none RX1 D N0 gp) (hlt : l.stackTraces = false) (hxt : ∀ x ∈ c.exceptionTable.toList, False) : ∀ (nn : Nat) (F : (Nat → Int32)) (M : (Nat → Nat → Int32)) (h : x_H) (mc : Nat) (ms : Nat) (x2 : Int32) (k n : Nat) (H : Heap) (locs : List Loc) (ls : Array Slot), x_R D s N0 (fixC ad F M ++ XF) h H → va_S (x_A N0) s.heap H locs → k + mc ≤ mc0 → n + ms ≤ ms0 → lv_has ls 4 [(0, .ref (ad 1000)), (1, .ref p1), (2, .int x2)] → wX1_trailers_b11 post postX gp ad p1 nn F M h mc ms x2 → W p l e (rmX1_trailers mc0 ms0) s m args below meth c H locs k n (vx_MQ below (x_Qc D N0 (x_Vv (qCv ad XF post))) (x_XC D N0 (qXC ad XF postX)) args s mc0 ms0 (x_A N0)) (F0 m 11 ls []) := by
  obtain ⟨⟨hx, hb, hml, hown, hts⟩, hr, hlocks, hG, hN⟩ := id C
  intro nn
  induction nn with
  | zero =>
    intro F M h mc ms x2 k n H locs ls hR hS hk hn hl hw
    exact False.elim hw
  | succ nn ih =>
    intro F M h mc ms x2 k n H locs ls hR hS hk hn hl hw
    have hK11 := ih
    replace hw : tX1_trailers_b11 post postX (wX1_trailers_b11 post postX gp ad p1 nn) gp ad p1 F M h mc ms x2 := hw
    unfold tX1_trailers_b11 at hw
    refine lv_iload_n hx hb dX1_trailers_11 rfl (lv_at hl 2 rfl) ?_
    refine lv_aload_n hx hb dX1_trailers_12 rfl (lv_at hl 0 rfl) ?_
    refine x_get (ci := 0) (Cn := RX1) (T := TX1) (N := 27) (v := .ref (ad 5)) C (hR.rdX 0 rfl) rfl in_X1 5 (by decide) q398 (fun _ h9 => h9) rfl dX1_trailers_13 ?_
    obtain ⟨t51, fs52, he53, hw⟩ := hw
    refine x_calli0 (x_runV (n := 0) (As := []) C hR hS (kJ2_size l D N0 gp _ (ad 5) h _ hw) (lw_V q358 q359 q360 q88 q361) rfl rfl (by decide +kernel) ⟨Nat.le_of_ble_eq_true rfl, Nat.le_of_ble_eq_true rfl⟩ (x_recv C (hR.rdH he53) rfl) rfl hl.1 rfl (Nat.le_of_ble_eq_true rfl) dX1_trailers_16 ⟨x_bud0 hk, x_bud0 hn⟩) hS (fun r50 X1 h1 H locs hq hR hS => ?_)
    clear hw
    obtain ⟨e1, e2, hw⟩ := hq
    rw [e1, e2] at hR
    refine lv_icmp_ge (tgt := 63) hx hb dX1_trailers_19 (by decide) (fun c54 => ?_) (fun c54 => ?_)
    · replace hw := hw.1 c54
      exact kX1_trailers_b63 C hlt hxt hR hS hk hn (lv_sub hl [0, 1] rfl) hw
    · replace hw := hw.2 c54
      refine lv_aload_n hx hb dX1_trailers_22 rfl (lv_at hl 0 rfl) ?_
      refine x_get (ci := 0) (Cn := RX1) (T := TX1) (N := 27) (v := .ref (ad 5)) C (hR.rdX 0 rfl) rfl in_X1 5 (by decide) q398 (fun _ h9 => h9) rfl dX1_trailers_23 ?_
      refine lv_iload_n hx hb dX1_trailers_26 rfl (lv_at hl 2 rfl) ?_
      obtain ⟨t56, fs57, he58, hw⟩ := hw
      refine x_calla0 (x_runV (n := 1) (As := [.int x2]) C hR hS (kJ2_get l D N0 gp _ (ad 5) x2 h _ hw) (lw_V q598 q599 q600 q88 q601) rfl rfl (by decide +kernel) ⟨Nat.le_of_ble_eq_true rfl, Nat.le_of_ble_eq_true rfl⟩ (x_recv C (hR.rdH he58) rfl) rfl hl.1 rfl (Nat.le_of_ble_eq_true rfl) dX1_trailers_27 ⟨x_bud0 hk, x_bud0 hn⟩) hS (fun r55 X1 h1 H locs hq hR hS => ?_)
      clear hw
      obtain ⟨e1, e2, hw⟩ := hq
      rw [e1, e2] at hR
      obtain ⟨a59, ea59, hw⟩ := hw
      rw [ea59]
      obtain ⟨t60, fs61, he62, hw⟩ := hw
      refine x_castH (ci := 2) (Cn := RX3) (T := TX3) (N := 2) C hR he62 rfl q992 dX1_trailers_30 ?_
      refine lv_astore_n (lv' := [(3, .ref a59), (0, .ref (ad 1000)), (1, .ref p1), (2, .int x2)]) hx hb dX1_trailers_33 rfl hl (by decide) rfl (fun ls hl => ?_)
      refine lv_aload_n hx hb dX1_trailers_34 rfl (lv_at hl 1 rfl) ?_
      refine lv_aload_n hx hb dX1_trailers_35 rfl (lv_at hl 0 rfl) ?_
      obtain ⟨t64, fs65, he66, hw⟩ := hw
      refine x_calla0 (x_runV (n := 0) (As := []) C hR hS (kX3_name l D N0 gp _ a59 h _ hw) (lw_V q993 q952 q953 q91 q954) rfl rfl (by decide +kernel) ⟨Nat.le_of_ble_eq_true rfl, Nat.le_of_ble_eq_true rfl⟩ (x_recv C (hR.rdH he66) rfl) rfl hl.1 rfl (Nat.le_of_ble_eq_true rfl) dX1_trailers_36 ⟨x_bud0 hk, x_bud0 hn⟩) hS (fun r63 X1 h1 H locs hq hR hS => ?_)
      clear hw
      obtain ⟨e1, e2, hw⟩ := hq
      rw [e1, e2] at hR
      refine lv_iconst (v := 0) hx hb dX1_trailers_39 (by decide) ?_
      obtain ⟨a67, ea67, hw⟩ := hw
      rw [ea67]
      obtain ⟨t69, fs70, he71, hw⟩ := hw
      refine x_calli0 (x_runV (n := 1) (As := [.int 0]) C hR hS (kJ9_charAt l D N0 gp _ a67 0 h _ hw) (lw_V q994 q995 q996 q99 q997) rfl rfl (by decide +kernel) ⟨Nat.le_of_ble_eq_true rfl, Nat.le_of_ble_eq_true rfl⟩ (x_recv C (hR.rdH he71) rfl) rfl hl.1 rfl (Nat.le_of_ble_eq_true rfl) dX1_trailers_40 ⟨x_bud0 hk, x_bud0 hn⟩) hS (fun r68 X1 h1 H locs hq hR hS => ?_)
      clear hw
      obtain ⟨e1, e2, hw⟩ := hq
      rw [e1, e2] at hR
      refine lv_bipush (v := 58) hx hb dX1_trailers_43 (by decide) ?_
      refine lv_icmp_eq (tgt := 52) hx hb dX1_trailers_45 (by decide) (fun c72 => ?_) (fun c72 => ?_)
      · replace hw := hw.1 c72
        refine lv_iconst (v := 0) hx hb dX1_trailers_52 (by decide) ?_
        exact kX1_trailers_b53 C hlt hxt hK11 hR hS hk hn (lv_sub hl [1, 2, 3] rfl) hw
      · replace hw := hw.2 c72
        refine lv_iconst (v := 1) hx hb dX1_trailers_48 (by decide) ?_
        refine lv_goto (tgt := 53) hx hb dX1_trailers_49 (by decide) ?_
        exact kX1_trailers_b53 C hlt hxt hK11 hR hS hk hn (lv_sub hl [1, 2, 3] rfl) hw
end
def wX1_trailers (post : (Nat → Int32) → (Nat → Nat → Int32) → x_H → Prop) (postX : String → (Nat → Int32) → (Nat → Nat → Int32) → x_H → Prop) (gp : Nat → Nat) (ad : Nat → Nat) (p1 : Nat) (F : (Nat → Int32)) (M : (Nat → Nat → Int32)) (h : x_H) (mc : Nat) (ms : Nat) : Prop :=
  ∃ ca43 cb44 mc45 ms46 : Nat, ca43 + mc45 ≤ mc ∧ cb44 + ms46 ≤ ms ∧ wX1_want (fun F47 M47 h48 => ∃ n49 : Nat, wX1_trailers_b11 post postX gp ad p1 n49 F47 M47 h48 mc45 ms46 0) postX ad (F 17) 1 F M h ca43 cb44
theorem kX1_trailers (l : Launch) (D : va_G) (N0 : Nat) (gp : Nat → Nat) (ad : Nat → Nat) (XF : x_X) (p1 : Nat) (F : (Nat → Int32)) (M : (Nat → Nat → Int32)) (h : x_H) (mc : Nat) (ms : Nat) (post : (Nat → Int32) → (Nat → Nat → Int32) → x_H → Prop) (postX : String → (Nat → Int32) → (Nat → Nat → Int32) → x_H → Prop) (hlt : l.stackTraces = false) (hw : wX1_trailers post postX gp ad p1 F M h mc ms) : vx_Met l yX1_trailers (ws_ yX1_trailers cX1_trailers 4 none) (rmX1_trailers mc ms) (x_Pc D N0 gp (fixC ad F M ++ XF) h [.ref (ad 1000), .ref p1]) (x_Qc D N0 (x_Vv (qCv ad XF post))) (x_XC D N0 (qXC ad XF postX)) mc ms (x_A N0) := by
  refine x_startX (lv := [(0, .ref (ad 1000)), (1, .ref p1)]) (by decide) rfl (Nat.le_of_ble_eq_true rfl) rfl ?_
  intro p e s m below meth c C hxt hR ls hl
  have hS : va_S (x_A N0) s.heap s.heap [] := va_S.rf
  obtain ⟨⟨hx, hb, hml, hown, hts⟩, hr, hlocks, hG, hN⟩ := id C
  unfold wX1_trailers at hw
  have hk : 0 + mc ≤ mc := Nat.le_of_eq (Nat.zero_add _)
  have hn : 0 + ms ≤ ms := Nat.le_of_eq (Nat.zero_add _)
  refine lv_aload_n hx hb dX1_trailers_0 rfl (lv_at hl 0 rfl) ?_
  refine lv_aload_n hx hb dX1_trailers_1 rfl (lv_at hl 0 rfl) ?_
  refine x_get (ci := 0) (Cn := RX1) (T := TX1) (N := 27) (v := .int (F 17)) C (hR.rdX 0 rfl) rfl in_X1 17 (by decide) q410 (fun _ h9 => h9) rfl dX1_trailers_2 ?_
  refine lv_iconst (v := 1) hx hb dX1_trailers_5 (by decide) ?_
  obtain ⟨ca43, cb44, mc45, ms46, hca43, hcb44, hw⟩ := hw
  refine x_callXv (x_runVX (n := 2) (As := [.int (F 17), .int 1]) C hR hS (kX1_want l D N0 gp ad XF (F 17) 1 F M h ca43 cb44 _ _ hlt hw) (lw_V q606 q608 qs19 q85 q609) rfl rfl (by decide +kernel) ⟨Nat.le_of_ble_eq_true rfl, Nat.le_of_ble_eq_true rfl⟩ (x_recv C (hR.rdX 0 rfl) rfl) rfl hl.1 rfl (Nat.le_of_ble_eq_true rfl) dX1_trailers_6 ⟨x_bud hk hca43, x_bud hn hcb44⟩) hS (fun E9 ce9 q9 X9 h9 H9 locs9 hq9 hR9 hS9 hce9 hcv9 hcl9 => by obtain ⟨F9, M9, e9, hq9⟩ := hq9; rw [e9] at hR9; exact x_outX C hxt hR9 hS9 ⟨_, _, rfl, hq9⟩ hce9 hcv9 hcl9 (x_bud hk hca43) (x_bud hn hcb44)) (fun X1 h48 H locs hq hR hS => ?_)
  clear hw
  obtain ⟨F47, M47, e1, hw⟩ := hq
  rw [e1] at hR
  have hk := x_budN hk hca43
  have hn := x_budN hn hcb44
  refine lv_iconst (v := 0) hx hb dX1_trailers_9 (by decide) ?_
  refine lv_istore_n (lv' := [(2, .int 0), (0, .ref (ad 1000)), (1, .ref p1)]) hx hb dX1_trailers_10 rfl hl (by decide) rfl (fun ls hl => ?_)
  obtain ⟨n49, hw⟩ := hw
  exact kX1_trailers_b11 C hlt hxt n49 _ _ _ _ _ _ _ _ _ _ _ hR hS hk hn (lv_sub hl [1, 2, 0] rfl) hw
/-- PageServer$Entry.value()Ljava/lang/String; -/
abbrev rmX3_value : Room := { frames := 0, cells := 0, slots := 0, locals := 0 }
section
variable {p : Program} {l : Launch} {e : Env} {s : State} {m : MethodId} {args : Array Value} {below : List Frame} {meth : Method} {c : Code} {D : va_G} {N0 : Nat} {gp : Nat → Nat} {X : x_X}
end
def wX3_value (post : Option Nat → Prop) (p0 : Nat) (h : x_H) : Prop :=
  ∃ v4 : Option Nat, x_f h p0 2 1 (va_rf v4) ∧ post v4 
theorem kX3_value (l : Launch) (D : va_G) (N0 : Nat) (gp : Nat → Nat) (X : x_X) (p0 : Nat) (h : x_H) (post : Option Nat → Prop) (hw : wX3_value post p0 h ) : Met l yX3_value (ws_ yX3_value cX3_value 1 (some (.object "java/lang/String"))) rmX3_value (x_Pc D N0 gp X h [.ref p0]) (x_Qc D N0 (x_Va (qPa X h post))) 0 0 (x_A N0) := by
  refine x_start (lv := [(0, .ref p0)]) (by decide) rfl (Nat.le_of_ble_eq_true rfl) rfl ?_
  intro p e s m below meth c C hR ls hl
  have hS : va_S (x_A N0) s.heap s.heap [] := va_S.rf
  obtain ⟨⟨hx, hb, hml, hown, hts⟩, hr, hlocks, hG, hN⟩ := id C
  unfold wX3_value at hw
  refine lv_aload_n hx hb dX3_value_0 rfl (lv_at hl 0 rfl) ?_
  obtain ⟨v4, hf3, hw⟩ := hw
  refine x_getH (ci := 2) (Cn := RX3) (T := TX3) (N := 2) (k := 1) C hR hf3 rfl in_X3 (by decide) q169 (fun _ h9 => h9) dX3_value_1 ?_
  exact x_enda (v := v4) C (Or.inl ⟨_, rfl⟩) hR hS ⟨_, rfl, ⟨rfl, rfl, hw⟩⟩ (Nat.le_refl _) (Nat.le_refl _) dX3_value_4
/-- PageServer.isLetter(I)Z -/
abbrev rmX1_isLetter : Room := { frames := 1, cells := 0, slots := 0, locals := 22 }
section
variable {p : Program} {l : Launch} {e : Env} {s : State} {m : MethodId} {args : Array Value} {below : List Frame} {meth : Method} {c : Code} {D : va_G} {N0 : Nat} {gp : Nat → Nat} {X : x_X} {h : x_H}
def wX1_isLetter_b16 (post : Int32 → Prop) (p0 : Int32) (s0 : Int32) : Prop :=
  narrow .boolean (.int s0) = .int s0 ∧ post s0 
theorem kX1_isLetter_b16 {post : Int32 → Prop} {p0 : Int32} (C : x_C p s m args meth c cX1_isLetter 1 (some .boolean) RX1 D N0 gp) {s0 : Int32} {H : Heap} {locs : List Loc} {ls : Array Slot} (hR : x_R D s N0 X h H) (hS : va_S (x_A N0) s.heap H locs) (hl : lv_has ls 1 []) (hw : wX1_isLetter_b16 post p0 s0) : W p l e rmX1_isLetter s m args below meth c H locs 0 0 (MQ below (x_Qc D N0 (x_Vi (qPi X h post))) args s 0 0 (x_A N0)) (F0 m 16 ls [.int s0]) := by
  obtain ⟨⟨hx, hb, hml, hown, hts⟩, hr, hlocks, hG, hN⟩ := id C
  unfold wX1_isLetter_b16 at hw
  obtain ⟨hz, hw⟩ := hw
  exact x_endz C hR hS hz ⟨_, rfl, ⟨rfl, rfl, hw⟩⟩ (Nat.le_refl _) (Nat.le_refl _) dX1_isLetter_16
end
def wX1_isLetter (post : Int32 → Prop) (p0 : Int32) : Prop :=
  wX1_outside (fun r3 => (r3 = 0 → wX1_isLetter_b16 post p0 1) ∧ (¬ r3 = 0 → wX1_isLetter_b16 post p0 0)) p0 97 122
theorem kX1_isLetter (l : Launch) (D : va_G) (N0 : Nat) (gp : Nat → Nat) (X : x_X) (h : x_H) (p0 : Int32) (post : Int32 → Prop) (hw : wX1_isLetter post p0 ) : Met l yX1_isLetter (ws_ yX1_isLetter cX1_isLetter 1 (some .boolean)) rmX1_isLetter (x_Pc D N0 gp X h [.int p0]) (x_Qc D N0 (x_Vi (qPi X h post))) 0 0 (x_A N0) := by
  refine x_start (lv := [(0, .int p0)]) (by decide) rfl (Nat.le_of_ble_eq_true rfl) rfl ?_
  intro p e s m below meth c C hR ls hl
  have hS : va_S (x_A N0) s.heap s.heap [] := va_S.rf
  obtain ⟨⟨hx, hb, hml, hown, hts⟩, hr, hlocks, hG, hN⟩ := id C
  unfold wX1_isLetter at hw
  refine lv_iload_n hx hb dX1_isLetter_0 rfl (lv_at hl 0 rfl) ?_
  refine lv_bipush (v := 97) hx hb dX1_isLetter_1 (by decide) ?_
  refine lv_bipush (v := 122) hx hb dX1_isLetter_3 (by decide) ?_
  refine x_calli0 (x_runS (n := 3) (As := [.int p0, .int 97, .int 122]) C hR hS (kX1_outside l D N0 gp _ _ p0 97 122 _ hw) (lw_S q480 q481 q85 q482) rfl rfl (by decide +kernel) ⟨Nat.le_of_ble_eq_true rfl, Nat.le_of_ble_eq_true rfl⟩ rfl hl.1 rfl (Nat.le_of_ble_eq_true rfl) dX1_isLetter_5 ⟨Nat.le_refl _, Nat.le_refl _⟩) hS (fun r3 X1 h1 H locs hq hR hS => ?_)
  clear hw
  obtain ⟨e1, e2, hw⟩ := hq
  rw [e1, e2] at hR
  refine lv_if_ne (tgt := 15) hx hb dX1_isLetter_8 (by decide) (fun c4 => ?_) (fun c4 => ?_)
  · replace hw := hw.2 c4
    refine lv_iconst (v := 0) hx hb dX1_isLetter_15 (by decide) ?_
    exact kX1_isLetter_b16 C hR hS (lv_sub hl [] rfl) hw
  · replace hw := hw.1 c4
    refine lv_iconst (v := 1) hx hb dX1_isLetter_11 (by decide) ?_
    refine lv_goto (tgt := 16) hx hb dX1_isLetter_12 (by decide) ?_
    exact kX1_isLetter_b16 C hR hS (lv_sub hl [] rfl) hw
/-- PageServer.isName(Ljava/lang/String;)Z -/
abbrev rmX1_isName : Room := { frames := 4, cells := 0, slots := 0, locals := 85 }
section
variable {p : Program} {l : Launch} {e : Env} {s : State} {m : MethodId} {args : Array Value} {below : List Frame} {meth : Method} {c : Code} {D : va_G} {N0 : Nat} {gp : Nat → Nat} {ad : Nat → Nat} {XF : x_X}
def wX1_isName_b32 (post : Int32 → Prop) (K4 : Int32 → Int32 → Prop) (gp : Nat → Nat) (ad : Nat → Nat) (p0 : Nat) (F : (Nat → Int32)) (M : (Nat → Nat → Int32)) (h : x_H) (x2 : Int32) (s0 : Int32) : Prop :=
  K4 s0 (x2 + 1)
theorem kX1_isName_b32 {post : Int32 → Prop} {K4 : Int32 → Int32 → Prop} {p0 : Nat} {F : (Nat → Int32)} {M : (Nat → Nat → Int32)} {h : x_H} (C : x_C p s m args meth c cX1_isName 3 (some .boolean) RX1 D N0 gp) (hK4 : ∀ (x1 : Int32) (x2 : Int32) (H : Heap) (locs : List Loc) (ls : Array Slot), x_R D s N0 (fixC ad F M ++ XF) h H → va_S (x_A N0) s.heap H locs → lv_has ls 3 [(0, .ref p0), (1, .int x1), (2, .int x2)] → K4 x1 x2 → W p l e rmX1_isName s m args below meth c H locs 0 0 (MQ below (x_Qc D N0 (x_Vi (qPi (fixC ad F M ++ XF) h post))) args s 0 0 (x_A N0)) (F0 m 4 ls [])) {x2 : Int32} {s0 : Int32} {H : Heap} {locs : List Loc} {ls : Array Slot} (hR : x_R D s N0 (fixC ad F M ++ XF) h H) (hS : va_S (x_A N0) s.heap H locs) (hl : lv_has ls 3 [(0, .ref p0), (2, .int x2)]) (hw : wX1_isName_b32 post K4 gp ad p0 F M h x2 s0) : W p l e rmX1_isName s m args below meth c H locs 0 0 (MQ below (x_Qc D N0 (x_Vi (qPi (fixC ad F M ++ XF) h post))) args s 0 0 (x_A N0)) (F0 m 32 ls [.int s0]) := by
  obtain ⟨⟨hx, hb, hml, hown, hts⟩, hr, hlocks, hG, hN⟩ := id C
  unfold wX1_isName_b32 at hw
  refine lv_istore_n (lv' := [(1, .int s0), (0, .ref p0), (2, .int x2)]) hx hb dX1_isName_32 rfl hl (by decide) rfl (fun ls hl => ?_)
  refine lv_iinc (v := x2 + 1) (lv' := [(2, .int (x2 + 1)), (1, .int s0), (0, .ref p0)]) hx hb dX1_isName_33 hl (k := 2) rfl (x_inc 1 1 (by decide)) (by decide) rfl (fun ls hl => ?_)
  refine lv_goto (tgt := 4) hx hb dX1_isName_36 (by decide) ?_
  exact hK4 _ _ _ _ _ hR hS (lv_sub hl [2, 1, 0] rfl) hw
def wX1_isName_b31 (post : Int32 → Prop) (K4 : Int32 → Int32 → Prop) (gp : Nat → Nat) (ad : Nat → Nat) (p0 : Nat) (F : (Nat → Int32)) (M : (Nat → Nat → Int32)) (h : x_H) (x2 : Int32) : Prop :=
  wX1_isName_b32 post K4 gp ad p0 F M h x2 0
theorem kX1_isName_b31 {post : Int32 → Prop} {K4 : Int32 → Int32 → Prop} {p0 : Nat} {F : (Nat → Int32)} {M : (Nat → Nat → Int32)} {h : x_H} (C : x_C p s m args meth c cX1_isName 3 (some .boolean) RX1 D N0 gp) (hK4 : ∀ (x1 : Int32) (x2 : Int32) (H : Heap) (locs : List Loc) (ls : Array Slot), x_R D s N0 (fixC ad F M ++ XF) h H → va_S (x_A N0) s.heap H locs → lv_has ls 3 [(0, .ref p0), (1, .int x1), (2, .int x2)] → K4 x1 x2 → W p l e rmX1_isName s m args below meth c H locs 0 0 (MQ below (x_Qc D N0 (x_Vi (qPi (fixC ad F M ++ XF) h post))) args s 0 0 (x_A N0)) (F0 m 4 ls [])) {x2 : Int32} {H : Heap} {locs : List Loc} {ls : Array Slot} (hR : x_R D s N0 (fixC ad F M ++ XF) h H) (hS : va_S (x_A N0) s.heap H locs) (hl : lv_has ls 3 [(0, .ref p0), (2, .int x2)]) (hw : wX1_isName_b31 post K4 gp ad p0 F M h x2) : W p l e rmX1_isName s m args below meth c H locs 0 0 (MQ below (x_Qc D N0 (x_Vi (qPi (fixC ad F M ++ XF) h post))) args s 0 0 (x_A N0)) (F0 m 31 ls []) := by
  obtain ⟨⟨hx, hb, hml, hown, hts⟩, hr, hlocks, hG, hN⟩ := id C
  unfold wX1_isName_b31 at hw
  refine lv_iconst (v := 0) hx hb dX1_isName_31 (by decide) ?_
  exact kX1_isName_b32 C hK4 hR hS (lv_sub hl [0, 1] rfl) hw
def wX1_isName_b39 (post : Int32 → Prop) (gp : Nat → Nat) (ad : Nat → Nat) (p0 : Nat) (F : (Nat → Int32)) (M : (Nat → Nat → Int32)) (h : x_H) (x1 : Int32) : Prop :=
  narrow .boolean (.int x1) = .int x1 ∧ post x1 
theorem kX1_isName_b39 {post : Int32 → Prop} {p0 : Nat} {F : (Nat → Int32)} {M : (Nat → Nat → Int32)} {h : x_H} (C : x_C p s m args meth c cX1_isName 3 (some .boolean) RX1 D N0 gp) {x1 : Int32} {H : Heap} {locs : List Loc} {ls : Array Slot} (hR : x_R D s N0 (fixC ad F M ++ XF) h H) (hS : va_S (x_A N0) s.heap H locs) (hl : lv_has ls 3 [(1, .int x1)]) (hw : wX1_isName_b39 post gp ad p0 F M h x1) : W p l e rmX1_isName s m args below meth c H locs 0 0 (MQ below (x_Qc D N0 (x_Vi (qPi (fixC ad F M ++ XF) h post))) args s 0 0 (x_A N0)) (F0 m 39 ls []) := by
  obtain ⟨⟨hx, hb, hml, hown, hts⟩, hr, hlocks, hG, hN⟩ := id C
  unfold wX1_isName_b39 at hw
  refine lv_iload_n hx hb dX1_isName_39 rfl (lv_at hl 0 rfl) ?_
  obtain ⟨hz, hw⟩ := hw
  exact x_endz C hR hS hz ⟨_, rfl, ⟨rfl, rfl, hw⟩⟩ (Nat.le_refl _) (Nat.le_refl _) dX1_isName_40
def tX1_isName_b4 (post : Int32 → Prop) (K4 : Int32 → Int32 → Prop) (gp : Nat → Nat) (ad : Nat → Nat) (p0 : Nat) (F : (Nat → Int32)) (M : (Nat → Nat → Int32)) (h : x_H) (x1 : Int32) (x2 : Int32) : Prop :=
  ∃ (t16 : Nat) (fs17 : List Value), h p0 = some (t16, .inr (9, fs17)) ∧ wJ9_length (fun r15 => (r15 ≤ x2 → wX1_isName_b39 post gp ad p0 F M h x1) ∧ (¬ r15 ≤ x2 → (x1 = 0 → wX1_isName_b31 post K4 gp ad p0 F M h x2) ∧ (¬ x1 = 0 → ∃ (t22 : Nat) (fs23 : List Value), h p0 = some (t22, .inr (9, fs23)) ∧ wJ9_charAt (fun r21 => wX1_isLetter (fun r25 => (r25 = 0 → wX1_isName_b31 post K4 gp ad p0 F M h x2) ∧ (¬ r25 = 0 → wX1_isName_b32 post K4 gp ad p0 F M h x2 1)) r21) gp p0 x2 h))) p0 h
def wX1_isName_b4 (post : Int32 → Prop) (gp : Nat → Nat) (ad : Nat → Nat) (p0 : Nat) (F : (Nat → Int32)) (M : (Nat → Nat → Int32)) (h : x_H) : Nat → Int32 → Int32 → Prop
  | 0 => fun _ _ => False
  | n + 1 => fun x1 x2 => tX1_isName_b4 post (wX1_isName_b4 post gp ad p0 F M h n) gp ad p0 F M h x1 x2
theorem kX1_isName_b4 {post : Int32 → Prop} {p0 : Nat} {F : (Nat → Int32)} {M : (Nat → Nat → Int32)} {h : x_H} (C : x_C p s m args meth c cX1_isName 3 (some .boolean) RX1 D N0 gp) : ∀ (nn : Nat) (x1 : Int32) (x2 : Int32) (H : Heap) (locs : List Loc) (ls : Array Slot), x_R D s N0 (fixC ad F M ++ XF) h H → va_S (x_A N0) s.heap H locs → lv_has ls 3 [(0, .ref p0), (1, .int x1), (2, .int x2)] → wX1_isName_b4 post gp ad p0 F M h nn x1 x2 → W p l e rmX1_isName s m args below meth c H locs 0 0 (MQ below (x_Qc D N0 (x_Vi (qPi (fixC ad F M ++ XF) h post))) args s 0 0 (x_A N0)) (F0 m 4 ls []) := by
  obtain ⟨⟨hx, hb, hml, hown, hts⟩, hr, hlocks, hG, hN⟩ := id C
  intro nn
  induction nn with
  | zero =>
    intro x1 x2 H locs ls hR hS hl hw
    exact False.elim hw
  | succ nn ih =>
    intro x1 x2 H locs ls hR hS hl hw
    have hK4 := ih
    replace hw : tX1_isName_b4 post (wX1_isName_b4 post gp ad p0 F M h nn) gp ad p0 F M h x1 x2 := hw
    unfold tX1_isName_b4 at hw
    refine lv_iload_n hx hb dX1_isName_4 rfl (lv_at hl 2 rfl) ?_
    refine lv_aload_n hx hb dX1_isName_5 rfl (lv_at hl 0 rfl) ?_
    obtain ⟨t16, fs17, he18, hw⟩ := hw
    refine x_calli0 (x_runV (n := 0) (As := []) C hR hS (kJ9_length l D N0 gp _ p0 h _ hw) (lw_V q1022 q783 q784 q99 q785) rfl rfl (by decide +kernel) ⟨Nat.le_of_ble_eq_true rfl, Nat.le_of_ble_eq_true rfl⟩ (x_recv C (hR.rdH he18) rfl) rfl hl.1 rfl (Nat.le_of_ble_eq_true rfl) dX1_isName_6 ⟨Nat.le_refl _, Nat.le_refl _⟩) hS (fun r15 X1 h1 H locs hq hR hS => ?_)
    clear hw
    obtain ⟨e1, e2, hw⟩ := hq
    rw [e1, e2] at hR
    refine lv_icmp_ge (tgt := 39) hx hb dX1_isName_9 (by decide) (fun c19 => ?_) (fun c19 => ?_)
    · replace hw := hw.1 c19
      exact kX1_isName_b39 C hR hS (lv_sub hl [1] rfl) hw
    · replace hw := hw.2 c19
      refine lv_iload_n hx hb dX1_isName_12 rfl (lv_at hl 1 rfl) ?_
      refine lv_if_eq (tgt := 31) hx hb dX1_isName_13 (by decide) (fun c20 => ?_) (fun c20 => ?_)
      · replace hw := hw.1 c20
        exact kX1_isName_b31 C hK4 hR hS (lv_sub hl [0, 2] rfl) hw
      · replace hw := hw.2 c20
        refine lv_aload_n hx hb dX1_isName_16 rfl (lv_at hl 0 rfl) ?_
        refine lv_iload_n hx hb dX1_isName_17 rfl (lv_at hl 2 rfl) ?_
        obtain ⟨t22, fs23, he24, hw⟩ := hw
        refine x_calli0 (x_runV (n := 1) (As := [.int x2]) C hR hS (kJ9_charAt l D N0 gp _ p0 x2 h _ hw) (lw_V q994 q995 q996 q99 q997) rfl rfl (by decide +kernel) ⟨Nat.le_of_ble_eq_true rfl, Nat.le_of_ble_eq_true rfl⟩ (x_recv C (hR.rdH he24) rfl) rfl hl.1 rfl (Nat.le_of_ble_eq_true rfl) dX1_isName_18 ⟨Nat.le_refl _, Nat.le_refl _⟩) hS (fun r21 X1 h1 H locs hq hR hS => ?_)
        clear hw
        obtain ⟨e1, e2, hw⟩ := hq
        rw [e1, e2] at hR
        refine x_calli0 (x_runS (n := 1) (As := [.int r21]) C hR hS (kX1_isLetter l D N0 gp _ _ r21 _ hw) (lw_S q1023 q1024 q85 q1025) rfl rfl (by decide +kernel) ⟨Nat.le_of_ble_eq_true rfl, Nat.le_of_ble_eq_true rfl⟩ rfl hl.1 rfl (Nat.le_of_ble_eq_true rfl) dX1_isName_21 ⟨Nat.le_refl _, Nat.le_refl _⟩) hS (fun r25 X1 h1 H locs hq hR hS => ?_)
        clear hw
        obtain ⟨e1, e2, hw⟩ := hq
        rw [e1, e2] at hR
        refine lv_if_eq (tgt := 31) hx hb dX1_isName_24 (by decide) (fun c26 => ?_) (fun c26 => ?_)
        · replace hw := hw.1 c26
          exact kX1_isName_b31 C hK4 hR hS (lv_sub hl [0, 2] rfl) hw
        · replace hw := hw.2 c26
          refine lv_iconst (v := 1) hx hb dX1_isName_27 (by decide) ?_
          refine lv_goto (tgt := 32) hx hb dX1_isName_28 (by decide) ?_
          exact kX1_isName_b32 C hK4 hR hS (lv_sub hl [0, 2] rfl) hw
end
def wX1_isName (post : Int32 → Prop) (gp : Nat → Nat) (ad : Nat → Nat) (p0 : Nat) (F : (Nat → Int32)) (M : (Nat → Nat → Int32)) (h : x_H) : Prop :=
  ∃ n14 : Nat, wX1_isName_b4 post gp ad p0 F M h n14 1 0
theorem kX1_isName (l : Launch) (D : va_G) (N0 : Nat) (gp : Nat → Nat) (ad : Nat → Nat) (XF : x_X) (p0 : Nat) (F : (Nat → Int32)) (M : (Nat → Nat → Int32)) (h : x_H) (post : Int32 → Prop) (hw : wX1_isName post gp ad p0 F M h ) : Met l yX1_isName (ws_ yX1_isName cX1_isName 3 (some .boolean)) rmX1_isName (x_Pc D N0 gp (fixC ad F M ++ XF) h [.ref p0]) (x_Qc D N0 (x_Vi (qPi (fixC ad F M ++ XF) h post))) 0 0 (x_A N0) := by
  refine x_start (lv := [(0, .ref p0)]) (by decide) rfl (Nat.le_of_ble_eq_true rfl) rfl ?_
  intro p e s m below meth c C hR ls hl
  have hS : va_S (x_A N0) s.heap s.heap [] := va_S.rf
  obtain ⟨⟨hx, hb, hml, hown, hts⟩, hr, hlocks, hG, hN⟩ := id C
  unfold wX1_isName at hw
  refine lv_iconst (v := 1) hx hb dX1_isName_0 (by decide) ?_
  refine lv_istore_n (lv' := [(1, .int 1), (0, .ref p0)]) hx hb dX1_isName_1 rfl hl (by decide) rfl (fun ls hl => ?_)
  refine lv_iconst (v := 0) hx hb dX1_isName_2 (by decide) ?_
  refine lv_istore_n (lv' := [(2, .int 0), (1, .int 1), (0, .ref p0)]) hx hb dX1_isName_3 rfl hl (by decide) rfl (fun ls hl => ?_)
  obtain ⟨n14, hw⟩ := hw
  exact kX1_isName_b4 C n14 _ _ _ _ _ hR hS (lv_sub hl [2, 1, 0] rfl) hw
/-- PageServer.isNumber(Ljava/lang/String;)Z -/
abbrev rmX1_isNumber : Room := { frames := 4, cells := 0, slots := 0, locals := 85 }
section
variable {p : Program} {l : Launch} {e : Env} {s : State} {m : MethodId} {args : Array Value} {below : List Frame} {meth : Method} {c : Code} {D : va_G} {N0 : Nat} {gp : Nat → Nat} {ad : Nat → Nat} {XF : x_X}
def wX1_isNumber_b52 (post : Int32 → Prop) (K20 : Int32 → Int32 → Prop) (gp : Nat → Nat) (ad : Nat → Nat) (p0 : Nat) (F : (Nat → Int32)) (M : (Nat → Nat → Int32)) (h : x_H) (x2 : Int32) (s0 : Int32) : Prop :=
  K20 s0 (x2 + 1)
theorem kX1_isNumber_b52 {post : Int32 → Prop} {K20 : Int32 → Int32 → Prop} {p0 : Nat} {F : (Nat → Int32)} {M : (Nat → Nat → Int32)} {h : x_H} (C : x_C p s m args meth c cX1_isNumber 3 (some .boolean) RX1 D N0 gp) (hK20 : ∀ (x1 : Int32) (x2 : Int32) (H : Heap) (locs : List Loc) (ls : Array Slot), x_R D s N0 (fixC ad F M ++ XF) h H → va_S (x_A N0) s.heap H locs → lv_has ls 3 [(0, .ref p0), (1, .int x1), (2, .int x2)] → K20 x1 x2 → W p l e rmX1_isNumber s m args below meth c H locs 0 0 (MQ below (x_Qc D N0 (x_Vi (qPi (fixC ad F M ++ XF) h post))) args s 0 0 (x_A N0)) (F0 m 20 ls [])) {x2 : Int32} {s0 : Int32} {H : Heap} {locs : List Loc} {ls : Array Slot} (hR : x_R D s N0 (fixC ad F M ++ XF) h H) (hS : va_S (x_A N0) s.heap H locs) (hl : lv_has ls 3 [(0, .ref p0), (2, .int x2)]) (hw : wX1_isNumber_b52 post K20 gp ad p0 F M h x2 s0) : W p l e rmX1_isNumber s m args below meth c H locs 0 0 (MQ below (x_Qc D N0 (x_Vi (qPi (fixC ad F M ++ XF) h post))) args s 0 0 (x_A N0)) (F0 m 52 ls [.int s0]) := by
  obtain ⟨⟨hx, hb, hml, hown, hts⟩, hr, hlocks, hG, hN⟩ := id C
  unfold wX1_isNumber_b52 at hw
  refine lv_istore_n (lv' := [(1, .int s0), (0, .ref p0), (2, .int x2)]) hx hb dX1_isNumber_52 rfl hl (by decide) rfl (fun ls hl => ?_)
  refine lv_iinc (v := x2 + 1) (lv' := [(2, .int (x2 + 1)), (1, .int s0), (0, .ref p0)]) hx hb dX1_isNumber_53 hl (k := 2) rfl (x_inc 1 1 (by decide)) (by decide) rfl (fun ls hl => ?_)
  refine lv_goto (tgt := 20) hx hb dX1_isNumber_56 (by decide) ?_
  exact hK20 _ _ _ _ _ hR hS (lv_sub hl [2, 1, 0] rfl) hw
def wX1_isNumber_b51 (post : Int32 → Prop) (K20 : Int32 → Int32 → Prop) (gp : Nat → Nat) (ad : Nat → Nat) (p0 : Nat) (F : (Nat → Int32)) (M : (Nat → Nat → Int32)) (h : x_H) (x2 : Int32) : Prop :=
  wX1_isNumber_b52 post K20 gp ad p0 F M h x2 0
theorem kX1_isNumber_b51 {post : Int32 → Prop} {K20 : Int32 → Int32 → Prop} {p0 : Nat} {F : (Nat → Int32)} {M : (Nat → Nat → Int32)} {h : x_H} (C : x_C p s m args meth c cX1_isNumber 3 (some .boolean) RX1 D N0 gp) (hK20 : ∀ (x1 : Int32) (x2 : Int32) (H : Heap) (locs : List Loc) (ls : Array Slot), x_R D s N0 (fixC ad F M ++ XF) h H → va_S (x_A N0) s.heap H locs → lv_has ls 3 [(0, .ref p0), (1, .int x1), (2, .int x2)] → K20 x1 x2 → W p l e rmX1_isNumber s m args below meth c H locs 0 0 (MQ below (x_Qc D N0 (x_Vi (qPi (fixC ad F M ++ XF) h post))) args s 0 0 (x_A N0)) (F0 m 20 ls [])) {x2 : Int32} {H : Heap} {locs : List Loc} {ls : Array Slot} (hR : x_R D s N0 (fixC ad F M ++ XF) h H) (hS : va_S (x_A N0) s.heap H locs) (hl : lv_has ls 3 [(0, .ref p0), (2, .int x2)]) (hw : wX1_isNumber_b51 post K20 gp ad p0 F M h x2) : W p l e rmX1_isNumber s m args below meth c H locs 0 0 (MQ below (x_Qc D N0 (x_Vi (qPi (fixC ad F M ++ XF) h post))) args s 0 0 (x_A N0)) (F0 m 51 ls []) := by
  obtain ⟨⟨hx, hb, hml, hown, hts⟩, hr, hlocks, hG, hN⟩ := id C
  unfold wX1_isNumber_b51 at hw
  refine lv_iconst (v := 0) hx hb dX1_isNumber_51 (by decide) ?_
  exact kX1_isNumber_b52 C hK20 hR hS (lv_sub hl [0, 1] rfl) hw
def wX1_isNumber_b59 (post : Int32 → Prop) (gp : Nat → Nat) (ad : Nat → Nat) (p0 : Nat) (F : (Nat → Int32)) (M : (Nat → Nat → Int32)) (h : x_H) (x1 : Int32) : Prop :=
  narrow .boolean (.int x1) = .int x1 ∧ post x1 
theorem kX1_isNumber_b59 {post : Int32 → Prop} {p0 : Nat} {F : (Nat → Int32)} {M : (Nat → Nat → Int32)} {h : x_H} (C : x_C p s m args meth c cX1_isNumber 3 (some .boolean) RX1 D N0 gp) {x1 : Int32} {H : Heap} {locs : List Loc} {ls : Array Slot} (hR : x_R D s N0 (fixC ad F M ++ XF) h H) (hS : va_S (x_A N0) s.heap H locs) (hl : lv_has ls 3 [(1, .int x1)]) (hw : wX1_isNumber_b59 post gp ad p0 F M h x1) : W p l e rmX1_isNumber s m args below meth c H locs 0 0 (MQ below (x_Qc D N0 (x_Vi (qPi (fixC ad F M ++ XF) h post))) args s 0 0 (x_A N0)) (F0 m 59 ls []) := by
  obtain ⟨⟨hx, hb, hml, hown, hts⟩, hr, hlocks, hG, hN⟩ := id C
  unfold wX1_isNumber_b59 at hw
  refine lv_iload_n hx hb dX1_isNumber_59 rfl (lv_at hl 0 rfl) ?_
  obtain ⟨hz, hw⟩ := hw
  exact x_endz C hR hS hz ⟨_, rfl, ⟨rfl, rfl, hw⟩⟩ (Nat.le_refl _) (Nat.le_refl _) dX1_isNumber_60
def tX1_isNumber_b20 (post : Int32 → Prop) (K20 : Int32 → Int32 → Prop) (gp : Nat → Nat) (ad : Nat → Nat) (p0 : Nat) (F : (Nat → Int32)) (M : (Nat → Nat → Int32)) (h : x_H) (x1 : Int32) (x2 : Int32) : Prop :=
  ∃ (t28 : Nat) (fs29 : List Value), h p0 = some (t28, .inr (9, fs29)) ∧ wJ9_length (fun r27 => (r27 ≤ x2 → wX1_isNumber_b59 post gp ad p0 F M h x1) ∧ (¬ r27 ≤ x2 → (x1 = 0 → wX1_isNumber_b51 post K20 gp ad p0 F M h x2) ∧ (¬ x1 = 0 → ∃ (t34 : Nat) (fs35 : List Value), h p0 = some (t34, .inr (9, fs35)) ∧ wJ9_charAt (fun r33 => wX1_outside (fun r37 => (r37 = 0 → wX1_isNumber_b52 post K20 gp ad p0 F M h x2 1) ∧ (¬ r37 = 0 → wX1_isNumber_b51 post K20 gp ad p0 F M h x2)) r33 48 57) gp p0 x2 h))) p0 h
def wX1_isNumber_b20 (post : Int32 → Prop) (gp : Nat → Nat) (ad : Nat → Nat) (p0 : Nat) (F : (Nat → Int32)) (M : (Nat → Nat → Int32)) (h : x_H) : Nat → Int32 → Int32 → Prop
  | 0 => fun _ _ => False
  | n + 1 => fun x1 x2 => tX1_isNumber_b20 post (wX1_isNumber_b20 post gp ad p0 F M h n) gp ad p0 F M h x1 x2
theorem kX1_isNumber_b20 {post : Int32 → Prop} {p0 : Nat} {F : (Nat → Int32)} {M : (Nat → Nat → Int32)} {h : x_H} (C : x_C p s m args meth c cX1_isNumber 3 (some .boolean) RX1 D N0 gp) : ∀ (nn : Nat) (x1 : Int32) (x2 : Int32) (H : Heap) (locs : List Loc) (ls : Array Slot), x_R D s N0 (fixC ad F M ++ XF) h H → va_S (x_A N0) s.heap H locs → lv_has ls 3 [(0, .ref p0), (1, .int x1), (2, .int x2)] → wX1_isNumber_b20 post gp ad p0 F M h nn x1 x2 → W p l e rmX1_isNumber s m args below meth c H locs 0 0 (MQ below (x_Qc D N0 (x_Vi (qPi (fixC ad F M ++ XF) h post))) args s 0 0 (x_A N0)) (F0 m 20 ls []) := by
  obtain ⟨⟨hx, hb, hml, hown, hts⟩, hr, hlocks, hG, hN⟩ := id C
  intro nn
  induction nn with
  | zero =>
    intro x1 x2 H locs ls hR hS hl hw
    exact False.elim hw
  | succ nn ih =>
    intro x1 x2 H locs ls hR hS hl hw
    have hK20 := ih
    replace hw : tX1_isNumber_b20 post (wX1_isNumber_b20 post gp ad p0 F M h nn) gp ad p0 F M h x1 x2 := hw
    unfold tX1_isNumber_b20 at hw
    refine lv_iload_n hx hb dX1_isNumber_20 rfl (lv_at hl 2 rfl) ?_
    refine lv_aload_n hx hb dX1_isNumber_21 rfl (lv_at hl 0 rfl) ?_
    obtain ⟨t28, fs29, he30, hw⟩ := hw
    refine x_calli0 (x_runV (n := 0) (As := []) C hR hS (kJ9_length l D N0 gp _ p0 h _ hw) (lw_V q1022 q783 q784 q99 q785) rfl rfl (by decide +kernel) ⟨Nat.le_of_ble_eq_true rfl, Nat.le_of_ble_eq_true rfl⟩ (x_recv C (hR.rdH he30) rfl) rfl hl.1 rfl (Nat.le_of_ble_eq_true rfl) dX1_isNumber_22 ⟨Nat.le_refl _, Nat.le_refl _⟩) hS (fun r27 X1 h1 H locs hq hR hS => ?_)
    clear hw
    obtain ⟨e1, e2, hw⟩ := hq
    rw [e1, e2] at hR
    refine lv_icmp_ge (tgt := 59) hx hb dX1_isNumber_25 (by decide) (fun c31 => ?_) (fun c31 => ?_)
    · replace hw := hw.1 c31
      exact kX1_isNumber_b59 C hR hS (lv_sub hl [1] rfl) hw
    · replace hw := hw.2 c31
      refine lv_iload_n hx hb dX1_isNumber_28 rfl (lv_at hl 1 rfl) ?_
      refine lv_if_eq (tgt := 51) hx hb dX1_isNumber_29 (by decide) (fun c32 => ?_) (fun c32 => ?_)
      · replace hw := hw.1 c32
        exact kX1_isNumber_b51 C hK20 hR hS (lv_sub hl [0, 2] rfl) hw
      · replace hw := hw.2 c32
        refine lv_aload_n hx hb dX1_isNumber_32 rfl (lv_at hl 0 rfl) ?_
        refine lv_iload_n hx hb dX1_isNumber_33 rfl (lv_at hl 2 rfl) ?_
        obtain ⟨t34, fs35, he36, hw⟩ := hw
        refine x_calli0 (x_runV (n := 1) (As := [.int x2]) C hR hS (kJ9_charAt l D N0 gp _ p0 x2 h _ hw) (lw_V q994 q995 q996 q99 q997) rfl rfl (by decide +kernel) ⟨Nat.le_of_ble_eq_true rfl, Nat.le_of_ble_eq_true rfl⟩ (x_recv C (hR.rdH he36) rfl) rfl hl.1 rfl (Nat.le_of_ble_eq_true rfl) dX1_isNumber_34 ⟨Nat.le_refl _, Nat.le_refl _⟩) hS (fun r33 X1 h1 H locs hq hR hS => ?_)
        clear hw
        obtain ⟨e1, e2, hw⟩ := hq
        rw [e1, e2] at hR
        refine lv_bipush (v := 48) hx hb dX1_isNumber_37 (by decide) ?_
        refine lv_bipush (v := 57) hx hb dX1_isNumber_39 (by decide) ?_
        refine x_calli0 (x_runS (n := 3) (As := [.int r33, .int 48, .int 57]) C hR hS (kX1_outside l D N0 gp _ _ r33 48 57 _ hw) (lw_S q480 q481 q85 q482) rfl rfl (by decide +kernel) ⟨Nat.le_of_ble_eq_true rfl, Nat.le_of_ble_eq_true rfl⟩ rfl hl.1 rfl (Nat.le_of_ble_eq_true rfl) dX1_isNumber_41 ⟨Nat.le_refl _, Nat.le_refl _⟩) hS (fun r37 X1 h1 H locs hq hR hS => ?_)
        clear hw
        obtain ⟨e1, e2, hw⟩ := hq
        rw [e1, e2] at hR
        refine lv_if_ne (tgt := 51) hx hb dX1_isNumber_44 (by decide) (fun c38 => ?_) (fun c38 => ?_)
        · replace hw := hw.2 c38
          exact kX1_isNumber_b51 C hK20 hR hS (lv_sub hl [0, 2] rfl) hw
        · replace hw := hw.1 c38
          refine lv_iconst (v := 1) hx hb dX1_isNumber_47 (by decide) ?_
          refine lv_goto (tgt := 52) hx hb dX1_isNumber_48 (by decide) ?_
          exact kX1_isNumber_b52 C hK20 hR hS (lv_sub hl [0, 2] rfl) hw
def wX1_isNumber_b17 (post : Int32 → Prop) (gp : Nat → Nat) (ad : Nat → Nat) (p0 : Nat) (F : (Nat → Int32)) (M : (Nat → Nat → Int32)) (h : x_H) (s0 : Int32) : Prop :=
  ∃ n26 : Nat, wX1_isNumber_b20 post gp ad p0 F M h n26 s0 0
theorem kX1_isNumber_b17 {post : Int32 → Prop} {p0 : Nat} {F : (Nat → Int32)} {M : (Nat → Nat → Int32)} {h : x_H} (C : x_C p s m args meth c cX1_isNumber 3 (some .boolean) RX1 D N0 gp) {s0 : Int32} {H : Heap} {locs : List Loc} {ls : Array Slot} (hR : x_R D s N0 (fixC ad F M ++ XF) h H) (hS : va_S (x_A N0) s.heap H locs) (hl : lv_has ls 3 [(0, .ref p0)]) (hw : wX1_isNumber_b17 post gp ad p0 F M h s0) : W p l e rmX1_isNumber s m args below meth c H locs 0 0 (MQ below (x_Qc D N0 (x_Vi (qPi (fixC ad F M ++ XF) h post))) args s 0 0 (x_A N0)) (F0 m 17 ls [.int s0]) := by
  obtain ⟨⟨hx, hb, hml, hown, hts⟩, hr, hlocks, hG, hN⟩ := id C
  unfold wX1_isNumber_b17 at hw
  refine lv_istore_n (lv' := [(1, .int s0), (0, .ref p0)]) hx hb dX1_isNumber_17 rfl hl (by decide) rfl (fun ls hl => ?_)
  refine lv_iconst (v := 0) hx hb dX1_isNumber_18 (by decide) ?_
  refine lv_istore_n (lv' := [(2, .int 0), (1, .int s0), (0, .ref p0)]) hx hb dX1_isNumber_19 rfl hl (by decide) rfl (fun ls hl => ?_)
  obtain ⟨n26, hw⟩ := hw
  exact kX1_isNumber_b20 C n26 _ _ _ _ _ hR hS (lv_sub hl [2, 1, 0] rfl) hw
end
def wX1_isNumber (post : Int32 → Prop) (gp : Nat → Nat) (ad : Nat → Nat) (p0 : Nat) (F : (Nat → Int32)) (M : (Nat → Nat → Int32)) (h : x_H) : Prop :=
  ∃ (t21 : Nat) (fs22 : List Value), h p0 = some (t21, .inr (9, fs22)) ∧ wJ9_length (fun r20 => wX1_outside (fun r24 => (r24 = 0 → wX1_isNumber_b17 post gp ad p0 F M h 1) ∧ (¬ r24 = 0 → wX1_isNumber_b17 post gp ad p0 F M h 0)) r20 1 3) p0 h
theorem kX1_isNumber (l : Launch) (D : va_G) (N0 : Nat) (gp : Nat → Nat) (ad : Nat → Nat) (XF : x_X) (p0 : Nat) (F : (Nat → Int32)) (M : (Nat → Nat → Int32)) (h : x_H) (post : Int32 → Prop) (hw : wX1_isNumber post gp ad p0 F M h ) : Met l yX1_isNumber (ws_ yX1_isNumber cX1_isNumber 3 (some .boolean)) rmX1_isNumber (x_Pc D N0 gp (fixC ad F M ++ XF) h [.ref p0]) (x_Qc D N0 (x_Vi (qPi (fixC ad F M ++ XF) h post))) 0 0 (x_A N0) := by
  refine x_start (lv := [(0, .ref p0)]) (by decide) rfl (Nat.le_of_ble_eq_true rfl) rfl ?_
  intro p e s m below meth c C hR ls hl
  have hS : va_S (x_A N0) s.heap s.heap [] := va_S.rf
  obtain ⟨⟨hx, hb, hml, hown, hts⟩, hr, hlocks, hG, hN⟩ := id C
  unfold wX1_isNumber at hw
  refine lv_aload_n hx hb dX1_isNumber_0 rfl (lv_at hl 0 rfl) ?_
  obtain ⟨t21, fs22, he23, hw⟩ := hw
  refine x_calli0 (x_runV (n := 0) (As := []) C hR hS (kJ9_length l D N0 gp _ p0 h _ hw) (lw_V q1022 q783 q784 q99 q785) rfl rfl (by decide +kernel) ⟨Nat.le_of_ble_eq_true rfl, Nat.le_of_ble_eq_true rfl⟩ (x_recv C (hR.rdH he23) rfl) rfl hl.1 rfl (Nat.le_of_ble_eq_true rfl) dX1_isNumber_1 ⟨Nat.le_refl _, Nat.le_refl _⟩) hS (fun r20 X1 h1 H locs hq hR hS => ?_)
  clear hw
  obtain ⟨e1, e2, hw⟩ := hq
  rw [e1, e2] at hR
  refine lv_iconst (v := 1) hx hb dX1_isNumber_4 (by decide) ?_
  refine lv_iconst (v := 3) hx hb dX1_isNumber_5 (by decide) ?_
  refine x_calli0 (x_runS (n := 3) (As := [.int r20, .int 1, .int 3]) C hR hS (kX1_outside l D N0 gp _ _ r20 1 3 _ hw) (lw_S q480 q481 q85 q482) rfl rfl (by decide +kernel) ⟨Nat.le_of_ble_eq_true rfl, Nat.le_of_ble_eq_true rfl⟩ rfl hl.1 rfl (Nat.le_of_ble_eq_true rfl) dX1_isNumber_6 ⟨Nat.le_refl _, Nat.le_refl _⟩) hS (fun r24 X1 h1 H locs hq hR hS => ?_)
  clear hw
  obtain ⟨e1, e2, hw⟩ := hq
  rw [e1, e2] at hR
  refine lv_if_ne (tgt := 16) hx hb dX1_isNumber_9 (by decide) (fun c25 => ?_) (fun c25 => ?_)
  · replace hw := hw.2 c25
    refine lv_iconst (v := 0) hx hb dX1_isNumber_16 (by decide) ?_
    exact kX1_isNumber_b17 C hR hS (lv_sub hl [0] rfl) hw
  · replace hw := hw.1 c25
    refine lv_iconst (v := 1) hx hb dX1_isNumber_12 (by decide) ?_
    refine lv_goto (tgt := 17) hx hb dX1_isNumber_13 (by decide) ?_
    exact kX1_isNumber_b17 C hR hS (lv_sub hl [0] rfl) hw
/-- PageServer.numberOf(Ljava/lang/String;)I -/
abbrev rmX1_numberOf : Room := { frames := 4, cells := 0, slots := 0, locals := 85 }
section
variable {p : Program} {l : Launch} {e : Env} {s : State} {m : MethodId} {args : Array Value} {below : List Frame} {meth : Method} {c : Code} {D : va_G} {N0 : Nat} {gp : Nat → Nat} {ad : Nat → Nat} {XF : x_X}
def wX1_numberOf_b32 (post : Int32 → Prop) (gp : Nat → Nat) (ad : Nat → Nat) (p0 : Nat) (F : (Nat → Int32)) (M : (Nat → Nat → Int32)) (h : x_H) (x1 : Int32) : Prop :=
  post x1 
theorem kX1_numberOf_b32 {post : Int32 → Prop} {p0 : Nat} {F : (Nat → Int32)} {M : (Nat → Nat → Int32)} {h : x_H} (C : x_C p s m args meth c cX1_numberOf 3 (some .int) RX1 D N0 gp) {x1 : Int32} {H : Heap} {locs : List Loc} {ls : Array Slot} (hR : x_R D s N0 (fixC ad F M ++ XF) h H) (hS : va_S (x_A N0) s.heap H locs) (hl : lv_has ls 3 [(1, .int x1)]) (hw : wX1_numberOf_b32 post gp ad p0 F M h x1) : W p l e rmX1_numberOf s m args below meth c H locs 0 0 (MQ below (x_Qc D N0 (x_Vi (qPi (fixC ad F M ++ XF) h post))) args s 0 0 (x_A N0)) (F0 m 32 ls []) := by
  obtain ⟨⟨hx, hb, hml, hown, hts⟩, hr, hlocks, hG, hN⟩ := id C
  unfold wX1_numberOf_b32 at hw
  refine lv_iload_n hx hb dX1_numberOf_32 rfl (lv_at hl 0 rfl) ?_
  exact x_endi C hR hS ⟨_, rfl, ⟨rfl, rfl, hw⟩⟩ (Nat.le_refl _) (Nat.le_refl _) dX1_numberOf_33
def tX1_numberOf_b4 (post : Int32 → Prop) (K4 : Int32 → Int32 → Prop) (gp : Nat → Nat) (ad : Nat → Nat) (p0 : Nat) (F : (Nat → Int32)) (M : (Nat → Nat → Int32)) (h : x_H) (x1 : Int32) (x2 : Int32) : Prop :=
  ∃ (t13 : Nat) (fs14 : List Value), h p0 = some (t13, .inr (9, fs14)) ∧ wJ9_length (fun r12 => (r12 ≤ x2 → wX1_numberOf_b32 post gp ad p0 F M h x1) ∧ (¬ r12 ≤ x2 → ∃ (t18 : Nat) (fs19 : List Value), h p0 = some (t18, .inr (9, fs19)) ∧ wJ9_charAt (fun r17 => K4 ((((10 : Int32) * x1) + r17) - 48) (x2 + 1)) gp p0 x2 h)) p0 h
def wX1_numberOf_b4 (post : Int32 → Prop) (gp : Nat → Nat) (ad : Nat → Nat) (p0 : Nat) (F : (Nat → Int32)) (M : (Nat → Nat → Int32)) (h : x_H) : Nat → Int32 → Int32 → Prop
  | 0 => fun _ _ => False
  | n + 1 => fun x1 x2 => tX1_numberOf_b4 post (wX1_numberOf_b4 post gp ad p0 F M h n) gp ad p0 F M h x1 x2
theorem kX1_numberOf_b4 {post : Int32 → Prop} {p0 : Nat} {F : (Nat → Int32)} {M : (Nat → Nat → Int32)} {h : x_H} (C : x_C p s m args meth c cX1_numberOf 3 (some .int) RX1 D N0 gp) : ∀ (nn : Nat) (x1 : Int32) (x2 : Int32) (H : Heap) (locs : List Loc) (ls : Array Slot), x_R D s N0 (fixC ad F M ++ XF) h H → va_S (x_A N0) s.heap H locs → lv_has ls 3 [(0, .ref p0), (1, .int x1), (2, .int x2)] → wX1_numberOf_b4 post gp ad p0 F M h nn x1 x2 → W p l e rmX1_numberOf s m args below meth c H locs 0 0 (MQ below (x_Qc D N0 (x_Vi (qPi (fixC ad F M ++ XF) h post))) args s 0 0 (x_A N0)) (F0 m 4 ls []) := by
  obtain ⟨⟨hx, hb, hml, hown, hts⟩, hr, hlocks, hG, hN⟩ := id C
  intro nn
  induction nn with
  | zero =>
    intro x1 x2 H locs ls hR hS hl hw
    exact False.elim hw
  | succ nn ih =>
    intro x1 x2 H locs ls hR hS hl hw
    have hK4 := ih
    replace hw : tX1_numberOf_b4 post (wX1_numberOf_b4 post gp ad p0 F M h nn) gp ad p0 F M h x1 x2 := hw
    unfold tX1_numberOf_b4 at hw
    refine lv_iload_n hx hb dX1_numberOf_4 rfl (lv_at hl 2 rfl) ?_
    refine lv_aload_n hx hb dX1_numberOf_5 rfl (lv_at hl 0 rfl) ?_
    obtain ⟨t13, fs14, he15, hw⟩ := hw
    refine x_calli0 (x_runV (n := 0) (As := []) C hR hS (kJ9_length l D N0 gp _ p0 h _ hw) (lw_V q1022 q783 q784 q99 q785) rfl rfl (by decide +kernel) ⟨Nat.le_of_ble_eq_true rfl, Nat.le_of_ble_eq_true rfl⟩ (x_recv C (hR.rdH he15) rfl) rfl hl.1 rfl (Nat.le_of_ble_eq_true rfl) dX1_numberOf_6 ⟨Nat.le_refl _, Nat.le_refl _⟩) hS (fun r12 X1 h1 H locs hq hR hS => ?_)
    clear hw
    obtain ⟨e1, e2, hw⟩ := hq
    rw [e1, e2] at hR
    refine lv_icmp_ge (tgt := 32) hx hb dX1_numberOf_9 (by decide) (fun c16 => ?_) (fun c16 => ?_)
    · replace hw := hw.1 c16
      exact kX1_numberOf_b32 C hR hS (lv_sub hl [1] rfl) hw
    · replace hw := hw.2 c16
      refine lv_bipush (v := 10) hx hb dX1_numberOf_12 (by decide) ?_
      refine lv_iload_n hx hb dX1_numberOf_14 rfl (lv_at hl 1 rfl) ?_
      refine lv_imul hx hb dX1_numberOf_15 ?_
      refine lv_aload_n hx hb dX1_numberOf_16 rfl (lv_at hl 0 rfl) ?_
      refine lv_iload_n hx hb dX1_numberOf_17 rfl (lv_at hl 2 rfl) ?_
      obtain ⟨t18, fs19, he20, hw⟩ := hw
      refine x_calli0 (x_runV (n := 1) (As := [.int x2]) C hR hS (kJ9_charAt l D N0 gp _ p0 x2 h _ hw) (lw_V q994 q995 q996 q99 q997) rfl rfl (by decide +kernel) ⟨Nat.le_of_ble_eq_true rfl, Nat.le_of_ble_eq_true rfl⟩ (x_recv C (hR.rdH he20) rfl) rfl hl.1 rfl (Nat.le_of_ble_eq_true rfl) dX1_numberOf_18 ⟨Nat.le_refl _, Nat.le_refl _⟩) hS (fun r17 X1 h1 H locs hq hR hS => ?_)
      clear hw
      obtain ⟨e1, e2, hw⟩ := hq
      rw [e1, e2] at hR
      refine lv_iadd hx hb dX1_numberOf_21 ?_
      refine lv_bipush (v := 48) hx hb dX1_numberOf_22 (by decide) ?_
      refine lv_isub hx hb dX1_numberOf_24 ?_
      refine lv_istore_n (lv' := [(1, .int ((((10 : Int32) * x1) + r17) - 48)), (0, .ref p0), (2, .int x2)]) hx hb dX1_numberOf_25 rfl hl (by decide) rfl (fun ls hl => ?_)
      refine lv_iinc (v := x2 + 1) (lv' := [(2, .int (x2 + 1)), (1, .int ((((10 : Int32) * x1) + r17) - 48)), (0, .ref p0)]) hx hb dX1_numberOf_26 hl (k := 2) rfl (x_inc 1 1 (by decide)) (by decide) rfl (fun ls hl => ?_)
      refine lv_goto (tgt := 4) hx hb dX1_numberOf_29 (by decide) ?_
      exact hK4 _ _ _ _ _ hR hS (lv_sub hl [2, 1, 0] rfl) hw
end
def wX1_numberOf (post : Int32 → Prop) (gp : Nat → Nat) (ad : Nat → Nat) (p0 : Nat) (F : (Nat → Int32)) (M : (Nat → Nat → Int32)) (h : x_H) : Prop :=
  ∃ n11 : Nat, wX1_numberOf_b4 post gp ad p0 F M h n11 0 0
theorem kX1_numberOf (l : Launch) (D : va_G) (N0 : Nat) (gp : Nat → Nat) (ad : Nat → Nat) (XF : x_X) (p0 : Nat) (F : (Nat → Int32)) (M : (Nat → Nat → Int32)) (h : x_H) (post : Int32 → Prop) (hw : wX1_numberOf post gp ad p0 F M h ) : Met l yX1_numberOf (ws_ yX1_numberOf cX1_numberOf 3 (some .int)) rmX1_numberOf (x_Pc D N0 gp (fixC ad F M ++ XF) h [.ref p0]) (x_Qc D N0 (x_Vi (qPi (fixC ad F M ++ XF) h post))) 0 0 (x_A N0) := by
  refine x_start (lv := [(0, .ref p0)]) (by decide) rfl (Nat.le_of_ble_eq_true rfl) rfl ?_
  intro p e s m below meth c C hR ls hl
  have hS : va_S (x_A N0) s.heap s.heap [] := va_S.rf
  obtain ⟨⟨hx, hb, hml, hown, hts⟩, hr, hlocks, hG, hN⟩ := id C
  unfold wX1_numberOf at hw
  refine lv_iconst (v := 0) hx hb dX1_numberOf_0 (by decide) ?_
  refine lv_istore_n (lv' := [(1, .int 0), (0, .ref p0)]) hx hb dX1_numberOf_1 rfl hl (by decide) rfl (fun ls hl => ?_)
  refine lv_iconst (v := 0) hx hb dX1_numberOf_2 (by decide) ?_
  refine lv_istore_n (lv' := [(2, .int 0), (1, .int 0), (0, .ref p0)]) hx hb dX1_numberOf_3 rfl hl (by decide) rfl (fun ls hl => ?_)
  obtain ⟨n11, hw⟩ := hw
  exact kX1_numberOf_b4 C n11 _ _ _ _ _ hR hS (lv_sub hl [2, 1, 0] rfl) hw
/-- PageServer$Stream.begin(II)LPageServer$Stream; -/
abbrev rmX5_begin : Room := { frames := 0, cells := 0, slots := 0, locals := 0 }
section
variable {p : Program} {l : Launch} {e : Env} {s : State} {m : MethodId} {args : Array Value} {below : List Frame} {meth : Method} {c : Code} {D : va_G} {N0 : Nat} {gp : Nat → Nat} {X : x_X}
end
def wX5_begin (post : Option Nat → x_H → Prop) (p0 : Nat) (p1 : Int32) (p2 : Int32) (h : x_H) : Prop :=
  ∃ (t37 : Nat) (fs38 : List Value), h p0 = some (t37, .inr (4, fs38)) ∧ t37 ≠ 1 ∧ 0 < fs38.length ∧ ∀ h42 : x_H, h42 = x_hs h p0 t37 (.inr (4, fs38.set 0 (.int p1))) → ∃ (t43 : Nat) (fs44 : List Value), h42 p0 = some (t43, .inr (4, fs44)) ∧ t43 ≠ 1 ∧ 1 < fs44.length ∧ ∀ h48 : x_H, h48 = x_hs h42 p0 t43 (.inr (4, fs44.set 1 (.int p2))) → ∃ (t49 : Nat) (fs50 : List Value), h48 p0 = some (t49, .inr (4, fs50)) ∧ t49 ≠ 1 ∧ 2 < fs50.length ∧ ∀ h54 : x_H, h54 = x_hs h48 p0 t49 (.inr (4, fs50.set 2 (.int 0))) → ∃ (t55 : Nat) (fs56 : List Value), h54 p0 = some (t55, .inr (4, fs56)) ∧ t55 ≠ 1 ∧ 3 < fs56.length ∧ ∀ h60 : x_H, h60 = x_hs h54 p0 t55 (.inr (4, fs56.set 3 (.int (-1)))) → ∃ (t61 : Nat) (fs62 : List Value), h60 p0 = some (t61, .inr (4, fs62)) ∧ t61 ≠ 1 ∧ 4 < fs62.length ∧ ∀ h66 : x_H, h66 = x_hs h60 p0 t61 (.inr (4, fs62.set 4 (.int 0))) → ∃ (t67 : Nat) (fs68 : List Value), h66 p0 = some (t67, .inr (4, fs68)) ∧ t67 ≠ 1 ∧ 6 < fs68.length ∧ ∀ h72 : x_H, h72 = x_hs h66 p0 t67 (.inr (4, fs68.set 6 (.int 0))) → post (some p0) h72
theorem kX5_begin (l : Launch) (D : va_G) (N0 : Nat) (gp : Nat → Nat) (X : x_X) (p0 : Nat) (p1 : Int32) (p2 : Int32) (h : x_H) (post : Option Nat → x_H → Prop) (hw : wX5_begin post p0 p1 p2 h) : Met l yX5_begin (ws_ yX5_begin cX5_begin 3 (some (.object "PageServer$Stream"))) rmX5_begin (x_Pc D N0 gp X h [.ref p0, .int p1, .int p2]) (x_Qc D N0 (x_Va (qJa X post))) 0 0 (x_A N0) := by
  refine x_start (lv := [(0, .ref p0), (1, .int p1), (2, .int p2)]) (by decide) rfl (Nat.le_of_ble_eq_true rfl) rfl ?_
  intro p e s m below meth c C hR ls hl
  have hS : va_S (x_A N0) s.heap s.heap [] := va_S.rf
  obtain ⟨⟨hx, hb, hml, hown, hts⟩, hr, hlocks, hG, hN⟩ := id C
  unfold wX5_begin at hw
  refine lv_aload_n hx hb dX5_begin_0 rfl (lv_at hl 0 rfl) ?_
  refine lv_iload_n hx hb dX5_begin_1 rfl (lv_at hl 1 rfl) ?_
  obtain ⟨t37, fs38, he39, ht40, hl41, hw⟩ := hw
  refine x_putH (ci := 4) (Cn := RX5) (T := TX5) (N := 9) (v := .int p1) C hR hS he39 ht40 rfl in_X5 tyX5_ok nmX5 0 (by decide) q319 (fun _ h9 => h9) rfl rfl rfl hl41 dX5_begin_2 (fun H locs hR hS => ?_)
  obtain ⟨h42, eh42⟩ : ∃ z, z = x_hs h p0 t37 (.inr (4, fs38.set 0 (.int p1))) := ⟨_, rfl⟩
  rw [← eh42] at hR
  replace hw := hw h42 eh42
  refine lv_aload_n hx hb dX5_begin_5 rfl (lv_at hl 0 rfl) ?_
  refine lv_iload_n hx hb dX5_begin_6 rfl (lv_at hl 2 rfl) ?_
  obtain ⟨t43, fs44, he45, ht46, hl47, hw⟩ := hw
  refine x_putH (ci := 4) (Cn := RX5) (T := TX5) (N := 9) (v := .int p2) C hR hS he45 ht46 rfl in_X5 tyX5_ok nmX5 1 (by decide) q321 (fun _ h9 => h9) rfl rfl rfl hl47 dX5_begin_7 (fun H locs hR hS => ?_)
  obtain ⟨h48, eh48⟩ : ∃ z, z = x_hs h42 p0 t43 (.inr (4, fs44.set 1 (.int p2))) := ⟨_, rfl⟩
  rw [← eh48] at hR
  replace hw := hw h48 eh48
  refine lv_aload_n hx hb dX5_begin_10 rfl (lv_at hl 0 rfl) ?_
  refine lv_iconst (v := 0) hx hb dX5_begin_11 (by decide) ?_
  obtain ⟨t49, fs50, he51, ht52, hl53, hw⟩ := hw
  refine x_putH (ci := 4) (Cn := RX5) (T := TX5) (N := 9) (v := .int 0) C hR hS he51 ht52 rfl in_X5 tyX5_ok nmX5 2 (by decide) q323 (fun _ h9 => h9) rfl rfl rfl hl53 dX5_begin_12 (fun H locs hR hS => ?_)
  obtain ⟨h54, eh54⟩ : ∃ z, z = x_hs h48 p0 t49 (.inr (4, fs50.set 2 (.int 0))) := ⟨_, rfl⟩
  rw [← eh54] at hR
  replace hw := hw h54 eh54
  refine lv_aload_n hx hb dX5_begin_15 rfl (lv_at hl 0 rfl) ?_
  refine lv_iconst (v := -1) hx hb dX5_begin_16 (by decide) ?_
  obtain ⟨t55, fs56, he57, ht58, hl59, hw⟩ := hw
  refine x_putH (ci := 4) (Cn := RX5) (T := TX5) (N := 9) (v := .int (-1)) C hR hS he57 ht58 rfl in_X5 tyX5_ok nmX5 3 (by decide) q325 (fun _ h9 => h9) rfl rfl rfl hl59 dX5_begin_17 (fun H locs hR hS => ?_)
  obtain ⟨h60, eh60⟩ : ∃ z, z = x_hs h54 p0 t55 (.inr (4, fs56.set 3 (.int (-1)))) := ⟨_, rfl⟩
  rw [← eh60] at hR
  replace hw := hw h60 eh60
  refine lv_aload_n hx hb dX5_begin_20 rfl (lv_at hl 0 rfl) ?_
  refine lv_iconst (v := 0) hx hb dX5_begin_21 (by decide) ?_
  obtain ⟨t61, fs62, he63, ht64, hl65, hw⟩ := hw
  refine x_putH (ci := 4) (Cn := RX5) (T := TX5) (N := 9) (v := .int 0) C hR hS he63 ht64 rfl in_X5 tyX5_ok nmX5 4 (by decide) q327 (fun _ h9 => h9) rfl rfl rfl hl65 dX5_begin_22 (fun H locs hR hS => ?_)
  obtain ⟨h66, eh66⟩ : ∃ z, z = x_hs h60 p0 t61 (.inr (4, fs62.set 4 (.int 0))) := ⟨_, rfl⟩
  rw [← eh66] at hR
  replace hw := hw h66 eh66
  refine lv_aload_n hx hb dX5_begin_25 rfl (lv_at hl 0 rfl) ?_
  refine lv_iconst (v := 0) hx hb dX5_begin_26 (by decide) ?_
  obtain ⟨t67, fs68, he69, ht70, hl71, hw⟩ := hw
  refine x_putH (ci := 4) (Cn := RX5) (T := TX5) (N := 9) (v := .int 0) C hR hS he69 ht70 rfl in_X5 tyX5_ok nmX5 6 (by decide) q330 (fun _ h9 => h9) rfl rfl rfl hl71 dX5_begin_27 (fun H locs hR hS => ?_)
  obtain ⟨h72, eh72⟩ : ∃ z, z = x_hs h66 p0 t67 (.inr (4, fs68.set 6 (.int 0))) := ⟨_, rfl⟩
  rw [← eh72] at hR
  replace hw := hw h72 eh72
  refine lv_aload_n hx hb dX5_begin_30 rfl (lv_at hl 0 rfl) ?_
  exact x_enda (v := (some p0)) C (Or.inl ⟨_, rfl⟩) hR hS ⟨_, rfl, ⟨rfl, hw⟩⟩ (Nat.le_refl _) (Nat.le_refl _) dX5_begin_31
/-- PageServer.request()V -/
abbrev rmX1_request (mc0 ms0 : Nat) : Room := { frames := 10, cells := mc0, slots := ms0, locals := 240 }
section
variable {p : Program} {l : Launch} {e : Env} {s : State} {m : MethodId} {args : Array Value} {below : List Frame} {meth : Method} {c : Code} {D : va_G} {N0 : Nat} {gp : Nat → Nat} {ad : Nat → Nat} {XF : x_X} {mc0 ms0 : Nat}
def wX1_request_b220 (post : (Nat → Int32) → (Nat → Nat → Int32) → x_H → Prop) (postX : String → (Nat → Int32) → (Nat → Nat → Int32) → x_H → Prop) (K42 : (Nat → Int32) → (Nat → Nat → Int32) → x_H → Nat → Nat → Option Nat → Option Nat → Int32 → Int32 → Int32 → Prop) (gp : Nat → Nat) (ad : Nat → Nat)  (F : (Nat → Int32)) (M : (Nat → Nat → Int32)) (h : x_H) (mc : Nat) (ms : Nat) (x1 : Option Nat) (x2 : Option Nat) (x3 : Int32) (x4 : Int32) (x5 : Int32) : Prop :=
  K42 F M h mc ms x1 x2 x3 x4 (x5 + 1)
theorem kX1_request_b220 {post : (Nat → Int32) → (Nat → Nat → Int32) → x_H → Prop} {postX : String → (Nat → Int32) → (Nat → Nat → Int32) → x_H → Prop} {K42 : (Nat → Int32) → (Nat → Nat → Int32) → x_H → Nat → Nat → Option Nat → Option Nat → Int32 → Int32 → Int32 → Prop} (C : x_C p s m args meth c cX1_request 7 none RX1 D N0 gp) (hlt : l.stackTraces = false) (hxt : ∀ x ∈ c.exceptionTable.toList, False) (hK42 : ∀ (F : (Nat → Int32)) (M : (Nat → Nat → Int32)) (h : x_H) (mc : Nat) (ms : Nat) (x1 : Option Nat) (x2 : Option Nat) (x3 : Int32) (x4 : Int32) (x5 : Int32) (k n : Nat) (H : Heap) (locs : List Loc) (ls : Array Slot), x_R D s N0 (fixC ad F M ++ XF) h H → va_S (x_A N0) s.heap H locs → k + mc ≤ mc0 → n + ms ≤ ms0 → lv_has ls 7 [(0, .ref (ad 1000)), (1, va_rf x1), (2, va_rf x2), (3, .int x3), (4, .int x4), (5, .int x5)] → K42 F M h mc ms x1 x2 x3 x4 x5 → W p l e (rmX1_request mc0 ms0) s m args below meth c H locs k n (vx_MQ below (x_Qc D N0 (x_Vv (qCv ad XF post))) (x_XC D N0 (qXC ad XF postX)) args s mc0 ms0 (x_A N0)) (F0 m 42 ls [])) {F : (Nat → Int32)} {M : (Nat → Nat → Int32)} {h : x_H} {mc : Nat} {ms : Nat} {x1 : Option Nat} {x2 : Option Nat} {x3 : Int32} {x4 : Int32} {x5 : Int32} {k n : Nat} {H : Heap} {locs : List Loc} {ls : Array Slot} (hR : x_R D s N0 (fixC ad F M ++ XF) h H) (hS : va_S (x_A N0) s.heap H locs) (hk : k + mc ≤ mc0) (hn : n + ms ≤ ms0) (hl : lv_has ls 7 [(0, .ref (ad 1000)), (1, va_rf x1), (2, va_rf x2), (3, .int x3), (4, .int x4), (5, .int x5)]) (hw : wX1_request_b220 post postX K42 gp ad F M h mc ms x1 x2 x3 x4 x5) : W p l e (rmX1_request mc0 ms0) s m args below meth c H locs k n (vx_MQ below (x_Qc D N0 (x_Vv (qCv ad XF post))) (x_XC D N0 (qXC ad XF postX)) args s mc0 ms0 (x_A N0)) (F0 m 220 ls []) := by
  obtain ⟨⟨hx, hb, hml, hown, hts⟩, hr, hlocks, hG, hN⟩ := id C
  unfold wX1_request_b220 at hw
  refine lv_iinc (v := x5 + 1) (lv' := [(5, .int (x5 + 1)), (0, .ref (ad 1000)), (1, va_rf x1), (2, va_rf x2), (3, .int x3), (4, .int x4)]) hx hb dX1_request_220 hl (k := 5) rfl (x_inc 1 1 (by decide)) (by decide) rfl (fun ls hl => ?_)
  refine lv_goto (tgt := 42) hx hb dX1_request_223 (by decide) ?_
  exact hK42 _ _ _ _ _ _ _ _ _ _ _ _ _ _ _ hR hS hk hn (lv_sub hl [1, 2, 3, 4, 5, 0] rfl) hw
def wX1_request_b97 (post : (Nat → Int32) → (Nat → Nat → Int32) → x_H → Prop) (postX : String → (Nat → Int32) → (Nat → Nat → Int32) → x_H → Prop) (K42 : (Nat → Int32) → (Nat → Nat → Int32) → x_H → Nat → Nat → Option Nat → Option Nat → Int32 → Int32 → Int32 → Prop) (gp : Nat → Nat) (ad : Nat → Nat)  (F : (Nat → Int32)) (M : (Nat → Nat → Int32)) (h : x_H) (mc : Nat) (ms : Nat) (x2 : Option Nat) (x3 : Int32) (x4 : Int32) (x5 : Int32) (x6 : Nat) (s0 : Int32) : Prop :=
  ∃ ca252 cb253 mc254 ms255 : Nat, ca252 + mc254 ≤ mc ∧ cb253 + ms255 ≤ ms ∧ wX1_want (fun F256 M256 h257 => ∃ (t259 : Nat) (fs260 : List Value), h257 x6 = some (t259, .inr (2, fs260)) ∧ wX3_value (fun r258 => wX1_request_b220 post postX K42 gp ad F256 M256 h257 mc254 ms255 r258 x2 x3 x4 x5) x6 h257) postX ad s0 1 F M h ca252 cb253
theorem kX1_request_b97 {post : (Nat → Int32) → (Nat → Nat → Int32) → x_H → Prop} {postX : String → (Nat → Int32) → (Nat → Nat → Int32) → x_H → Prop} {K42 : (Nat → Int32) → (Nat → Nat → Int32) → x_H → Nat → Nat → Option Nat → Option Nat → Int32 → Int32 → Int32 → Prop} (C : x_C p s m args meth c cX1_request 7 none RX1 D N0 gp) (hlt : l.stackTraces = false) (hxt : ∀ x ∈ c.exceptionTable.toList, False) (hK42 : ∀ (F : (Nat → Int32)) (M : (Nat → Nat → Int32)) (h : x_H) (mc : Nat) (ms : Nat) (x1 : Option Nat) (x2 : Option Nat) (x3 : Int32) (x4 : Int32) (x5 : Int32) (k n : Nat) (H : Heap) (locs : List Loc) (ls : Array Slot), x_R D s N0 (fixC ad F M ++ XF) h H → va_S (x_A N0) s.heap H locs → k + mc ≤ mc0 → n + ms ≤ ms0 → lv_has ls 7 [(0, .ref (ad 1000)), (1, va_rf x1), (2, va_rf x2), (3, .int x3), (4, .int x4), (5, .int x5)] → K42 F M h mc ms x1 x2 x3 x4 x5 → W p l e (rmX1_request mc0 ms0) s m args below meth c H locs k n (vx_MQ below (x_Qc D N0 (x_Vv (qCv ad XF post))) (x_XC D N0 (qXC ad XF postX)) args s mc0 ms0 (x_A N0)) (F0 m 42 ls [])) {F : (Nat → Int32)} {M : (Nat → Nat → Int32)} {h : x_H} {mc : Nat} {ms : Nat} {x2 : Option Nat} {x3 : Int32} {x4 : Int32} {x5 : Int32} {x6 : Nat} {s0 : Int32} {k n : Nat} {H : Heap} {locs : List Loc} {ls : Array Slot} (hR : x_R D s N0 (fixC ad F M ++ XF) h H) (hS : va_S (x_A N0) s.heap H locs) (hk : k + mc ≤ mc0) (hn : n + ms ≤ ms0) (hl : lv_has ls 7 [(0, .ref (ad 1000)), (2, va_rf x2), (3, .int x3), (4, .int x4), (5, .int x5), (6, .ref x6)]) (hw : wX1_request_b97 post postX K42 gp ad F M h mc ms x2 x3 x4 x5 x6 s0) : W p l e (rmX1_request mc0 ms0) s m args below meth c H locs k n (vx_MQ below (x_Qc D N0 (x_Vv (qCv ad XF post))) (x_XC D N0 (qXC ad XF postX)) args s mc0 ms0 (x_A N0)) (F0 m 97 ls [.int s0, .ref (ad 1000)]) := by
  obtain ⟨⟨hx, hb, hml, hown, hts⟩, hr, hlocks, hG, hN⟩ := id C
  unfold wX1_request_b97 at hw
  refine lv_iconst (v := 1) hx hb dX1_request_97 (by decide) ?_
  obtain ⟨ca252, cb253, mc254, ms255, hca252, hcb253, hw⟩ := hw
  refine x_callXv (x_runVX (n := 2) (As := [.int s0, .int 1]) C hR hS (kX1_want l D N0 gp ad XF s0 1 F M h ca252 cb253 _ _ hlt hw) (lw_V q606 q608 qs19 q85 q609) rfl rfl (by decide +kernel) ⟨Nat.le_of_ble_eq_true rfl, Nat.le_of_ble_eq_true rfl⟩ (x_recv C (hR.rdX 0 rfl) rfl) rfl hl.1 rfl (Nat.le_of_ble_eq_true rfl) dX1_request_98 ⟨x_bud hk hca252, x_bud hn hcb253⟩) hS (fun E9 ce9 q9 X9 h9 H9 locs9 hq9 hR9 hS9 hce9 hcv9 hcl9 => by obtain ⟨F9, M9, e9, hq9⟩ := hq9; rw [e9] at hR9; exact x_outX C hxt hR9 hS9 ⟨_, _, rfl, hq9⟩ hce9 hcv9 hcl9 (x_bud hk hca252) (x_bud hn hcb253)) (fun X1 h257 H locs hq hR hS => ?_)
  clear hw
  obtain ⟨F256, M256, e1, hw⟩ := hq
  rw [e1] at hR
  have hk := x_budN hk hca252
  have hn := x_budN hn hcb253
  refine lv_aload hx hb dX1_request_101 (lv_at hl 5 rfl) ?_
  obtain ⟨t259, fs260, he261, hw⟩ := hw
  refine x_calla0 (x_runV (n := 0) (As := []) C hR hS (kX3_value l D N0 gp _ x6 h257 _ hw) (lw_V q1014 q1015 q1016 q91 q1017) rfl rfl (by decide +kernel) ⟨Nat.le_of_ble_eq_true rfl, Nat.le_of_ble_eq_true rfl⟩ (x_recv C (hR.rdH he261) rfl) rfl hl.1 rfl (Nat.le_of_ble_eq_true rfl) dX1_request_103 ⟨x_bud0 hk, x_bud0 hn⟩) hS (fun r258 X1 h1 H locs hq hR hS => ?_)
  clear hw
  obtain ⟨e1, e2, hw⟩ := hq
  rw [e1, e2] at hR
  refine x_astore_nO (lv' := [(1, va_rf r258), (0, .ref (ad 1000)), (2, va_rf x2), (3, .int x3), (4, .int x4), (5, .int x5), (6, .ref x6)]) hx hb dX1_request_106 rfl hl (by decide) rfl (fun ls hl => ?_)
  refine lv_goto (tgt := 220) hx hb dX1_request_107 (by decide) ?_
  exact kX1_request_b220 C hlt hxt hK42 hR hS hk hn (lv_sub hl [1, 0, 2, 3, 4, 5] rfl) hw
def wX1_request_b96 (post : (Nat → Int32) → (Nat → Nat → Int32) → x_H → Prop) (postX : String → (Nat → Int32) → (Nat → Nat → Int32) → x_H → Prop) (K42 : (Nat → Int32) → (Nat → Nat → Int32) → x_H → Nat → Nat → Option Nat → Option Nat → Int32 → Int32 → Int32 → Prop) (gp : Nat → Nat) (ad : Nat → Nat)  (F : (Nat → Int32)) (M : (Nat → Nat → Int32)) (h : x_H) (mc : Nat) (ms : Nat) (x2 : Option Nat) (x3 : Int32) (x4 : Int32) (x5 : Int32) (x6 : Nat) : Prop :=
  wX1_request_b97 post postX K42 gp ad F M h mc ms x2 x3 x4 x5 x6 0
theorem kX1_request_b96 {post : (Nat → Int32) → (Nat → Nat → Int32) → x_H → Prop} {postX : String → (Nat → Int32) → (Nat → Nat → Int32) → x_H → Prop} {K42 : (Nat → Int32) → (Nat → Nat → Int32) → x_H → Nat → Nat → Option Nat → Option Nat → Int32 → Int32 → Int32 → Prop} (C : x_C p s m args meth c cX1_request 7 none RX1 D N0 gp) (hlt : l.stackTraces = false) (hxt : ∀ x ∈ c.exceptionTable.toList, False) (hK42 : ∀ (F : (Nat → Int32)) (M : (Nat → Nat → Int32)) (h : x_H) (mc : Nat) (ms : Nat) (x1 : Option Nat) (x2 : Option Nat) (x3 : Int32) (x4 : Int32) (x5 : Int32) (k n : Nat) (H : Heap) (locs : List Loc) (ls : Array Slot), x_R D s N0 (fixC ad F M ++ XF) h H → va_S (x_A N0) s.heap H locs → k + mc ≤ mc0 → n + ms ≤ ms0 → lv_has ls 7 [(0, .ref (ad 1000)), (1, va_rf x1), (2, va_rf x2), (3, .int x3), (4, .int x4), (5, .int x5)] → K42 F M h mc ms x1 x2 x3 x4 x5 → W p l e (rmX1_request mc0 ms0) s m args below meth c H locs k n (vx_MQ below (x_Qc D N0 (x_Vv (qCv ad XF post))) (x_XC D N0 (qXC ad XF postX)) args s mc0 ms0 (x_A N0)) (F0 m 42 ls [])) {F : (Nat → Int32)} {M : (Nat → Nat → Int32)} {h : x_H} {mc : Nat} {ms : Nat} {x2 : Option Nat} {x3 : Int32} {x4 : Int32} {x5 : Int32} {x6 : Nat} {k n : Nat} {H : Heap} {locs : List Loc} {ls : Array Slot} (hR : x_R D s N0 (fixC ad F M ++ XF) h H) (hS : va_S (x_A N0) s.heap H locs) (hk : k + mc ≤ mc0) (hn : n + ms ≤ ms0) (hl : lv_has ls 7 [(0, .ref (ad 1000)), (2, va_rf x2), (3, .int x3), (4, .int x4), (5, .int x5), (6, .ref x6)]) (hw : wX1_request_b96 post postX K42 gp ad F M h mc ms x2 x3 x4 x5 x6) : W p l e (rmX1_request mc0 ms0) s m args below meth c H locs k n (vx_MQ below (x_Qc D N0 (x_Vv (qCv ad XF post))) (x_XC D N0 (qXC ad XF postX)) args s mc0 ms0 (x_A N0)) (F0 m 96 ls [.ref (ad 1000)]) := by
  obtain ⟨⟨hx, hb, hml, hown, hts⟩, hr, hlocks, hG, hN⟩ := id C
  unfold wX1_request_b96 at hw
  refine lv_iconst (v := 0) hx hb dX1_request_96 (by decide) ?_
  exact kX1_request_b97 C hlt hxt hK42 hR hS hk hn (lv_sub hl [0, 1, 2, 3, 4, 5] rfl) hw
def wX1_request_b139 (post : (Nat → Int32) → (Nat → Nat → Int32) → x_H → Prop) (postX : String → (Nat → Int32) → (Nat → Nat → Int32) → x_H → Prop) (K42 : (Nat → Int32) → (Nat → Nat → Int32) → x_H → Nat → Nat → Option Nat → Option Nat → Int32 → Int32 → Int32 → Prop) (gp : Nat → Nat) (ad : Nat → Nat)  (F : (Nat → Int32)) (M : (Nat → Nat → Int32)) (h : x_H) (mc : Nat) (ms : Nat) (x1 : Option Nat) (x3 : Int32) (x4 : Int32) (x5 : Int32) (x6 : Nat) (s0 : Int32) : Prop :=
  ∃ ca262 cb263 mc264 ms265 : Nat, ca262 + mc264 ≤ mc ∧ cb263 + ms265 ≤ ms ∧ wX1_want (fun F266 M266 h267 => ∃ (t269 : Nat) (fs270 : List Value), h267 x6 = some (t269, .inr (2, fs270)) ∧ wX3_value (fun r268 => wX1_request_b220 post postX K42 gp ad F266 M266 h267 mc264 ms265 x1 r268 x3 x4 x5) x6 h267) postX ad s0 1 F M h ca262 cb263
theorem kX1_request_b139 {post : (Nat → Int32) → (Nat → Nat → Int32) → x_H → Prop} {postX : String → (Nat → Int32) → (Nat → Nat → Int32) → x_H → Prop} {K42 : (Nat → Int32) → (Nat → Nat → Int32) → x_H → Nat → Nat → Option Nat → Option Nat → Int32 → Int32 → Int32 → Prop} (C : x_C p s m args meth c cX1_request 7 none RX1 D N0 gp) (hlt : l.stackTraces = false) (hxt : ∀ x ∈ c.exceptionTable.toList, False) (hK42 : ∀ (F : (Nat → Int32)) (M : (Nat → Nat → Int32)) (h : x_H) (mc : Nat) (ms : Nat) (x1 : Option Nat) (x2 : Option Nat) (x3 : Int32) (x4 : Int32) (x5 : Int32) (k n : Nat) (H : Heap) (locs : List Loc) (ls : Array Slot), x_R D s N0 (fixC ad F M ++ XF) h H → va_S (x_A N0) s.heap H locs → k + mc ≤ mc0 → n + ms ≤ ms0 → lv_has ls 7 [(0, .ref (ad 1000)), (1, va_rf x1), (2, va_rf x2), (3, .int x3), (4, .int x4), (5, .int x5)] → K42 F M h mc ms x1 x2 x3 x4 x5 → W p l e (rmX1_request mc0 ms0) s m args below meth c H locs k n (vx_MQ below (x_Qc D N0 (x_Vv (qCv ad XF post))) (x_XC D N0 (qXC ad XF postX)) args s mc0 ms0 (x_A N0)) (F0 m 42 ls [])) {F : (Nat → Int32)} {M : (Nat → Nat → Int32)} {h : x_H} {mc : Nat} {ms : Nat} {x1 : Option Nat} {x3 : Int32} {x4 : Int32} {x5 : Int32} {x6 : Nat} {s0 : Int32} {k n : Nat} {H : Heap} {locs : List Loc} {ls : Array Slot} (hR : x_R D s N0 (fixC ad F M ++ XF) h H) (hS : va_S (x_A N0) s.heap H locs) (hk : k + mc ≤ mc0) (hn : n + ms ≤ ms0) (hl : lv_has ls 7 [(0, .ref (ad 1000)), (1, va_rf x1), (3, .int x3), (4, .int x4), (5, .int x5), (6, .ref x6)]) (hw : wX1_request_b139 post postX K42 gp ad F M h mc ms x1 x3 x4 x5 x6 s0) : W p l e (rmX1_request mc0 ms0) s m args below meth c H locs k n (vx_MQ below (x_Qc D N0 (x_Vv (qCv ad XF post))) (x_XC D N0 (qXC ad XF postX)) args s mc0 ms0 (x_A N0)) (F0 m 139 ls [.int s0, .ref (ad 1000)]) := by
  obtain ⟨⟨hx, hb, hml, hown, hts⟩, hr, hlocks, hG, hN⟩ := id C
  unfold wX1_request_b139 at hw
  refine lv_iconst (v := 1) hx hb dX1_request_139 (by decide) ?_
  obtain ⟨ca262, cb263, mc264, ms265, hca262, hcb263, hw⟩ := hw
  refine x_callXv (x_runVX (n := 2) (As := [.int s0, .int 1]) C hR hS (kX1_want l D N0 gp ad XF s0 1 F M h ca262 cb263 _ _ hlt hw) (lw_V q606 q608 qs19 q85 q609) rfl rfl (by decide +kernel) ⟨Nat.le_of_ble_eq_true rfl, Nat.le_of_ble_eq_true rfl⟩ (x_recv C (hR.rdX 0 rfl) rfl) rfl hl.1 rfl (Nat.le_of_ble_eq_true rfl) dX1_request_140 ⟨x_bud hk hca262, x_bud hn hcb263⟩) hS (fun E9 ce9 q9 X9 h9 H9 locs9 hq9 hR9 hS9 hce9 hcv9 hcl9 => by obtain ⟨F9, M9, e9, hq9⟩ := hq9; rw [e9] at hR9; exact x_outX C hxt hR9 hS9 ⟨_, _, rfl, hq9⟩ hce9 hcv9 hcl9 (x_bud hk hca262) (x_bud hn hcb263)) (fun X1 h267 H locs hq hR hS => ?_)
  clear hw
  obtain ⟨F266, M266, e1, hw⟩ := hq
  rw [e1] at hR
  have hk := x_budN hk hca262
  have hn := x_budN hn hcb263
  refine lv_aload hx hb dX1_request_143 (lv_at hl 5 rfl) ?_
  obtain ⟨t269, fs270, he271, hw⟩ := hw
  refine x_calla0 (x_runV (n := 0) (As := []) C hR hS (kX3_value l D N0 gp _ x6 h267 _ hw) (lw_V q1014 q1015 q1016 q91 q1017) rfl rfl (by decide +kernel) ⟨Nat.le_of_ble_eq_true rfl, Nat.le_of_ble_eq_true rfl⟩ (x_recv C (hR.rdH he271) rfl) rfl hl.1 rfl (Nat.le_of_ble_eq_true rfl) dX1_request_145 ⟨x_bud0 hk, x_bud0 hn⟩) hS (fun r268 X1 h1 H locs hq hR hS => ?_)
  clear hw
  obtain ⟨e1, e2, hw⟩ := hq
  rw [e1, e2] at hR
  refine x_astore_nO (lv' := [(2, va_rf r268), (0, .ref (ad 1000)), (1, va_rf x1), (3, .int x3), (4, .int x4), (5, .int x5), (6, .ref x6)]) hx hb dX1_request_148 rfl hl (by decide) (by simp only [List.filter_cons, List.filter_nil, x_cat1]; rfl) (fun ls hl => ?_)
  refine lv_goto (tgt := 220) hx hb dX1_request_149 (by decide) ?_
  exact kX1_request_b220 C hlt hxt hK42 hR hS hk hn (lv_sub hl [1, 2, 0, 3, 4, 5] rfl) hw
def wX1_request_b138 (post : (Nat → Int32) → (Nat → Nat → Int32) → x_H → Prop) (postX : String → (Nat → Int32) → (Nat → Nat → Int32) → x_H → Prop) (K42 : (Nat → Int32) → (Nat → Nat → Int32) → x_H → Nat → Nat → Option Nat → Option Nat → Int32 → Int32 → Int32 → Prop) (gp : Nat → Nat) (ad : Nat → Nat)  (F : (Nat → Int32)) (M : (Nat → Nat → Int32)) (h : x_H) (mc : Nat) (ms : Nat) (x1 : Option Nat) (x3 : Int32) (x4 : Int32) (x5 : Int32) (x6 : Nat) : Prop :=
  wX1_request_b139 post postX K42 gp ad F M h mc ms x1 x3 x4 x5 x6 0
theorem kX1_request_b138 {post : (Nat → Int32) → (Nat → Nat → Int32) → x_H → Prop} {postX : String → (Nat → Int32) → (Nat → Nat → Int32) → x_H → Prop} {K42 : (Nat → Int32) → (Nat → Nat → Int32) → x_H → Nat → Nat → Option Nat → Option Nat → Int32 → Int32 → Int32 → Prop} (C : x_C p s m args meth c cX1_request 7 none RX1 D N0 gp) (hlt : l.stackTraces = false) (hxt : ∀ x ∈ c.exceptionTable.toList, False) (hK42 : ∀ (F : (Nat → Int32)) (M : (Nat → Nat → Int32)) (h : x_H) (mc : Nat) (ms : Nat) (x1 : Option Nat) (x2 : Option Nat) (x3 : Int32) (x4 : Int32) (x5 : Int32) (k n : Nat) (H : Heap) (locs : List Loc) (ls : Array Slot), x_R D s N0 (fixC ad F M ++ XF) h H → va_S (x_A N0) s.heap H locs → k + mc ≤ mc0 → n + ms ≤ ms0 → lv_has ls 7 [(0, .ref (ad 1000)), (1, va_rf x1), (2, va_rf x2), (3, .int x3), (4, .int x4), (5, .int x5)] → K42 F M h mc ms x1 x2 x3 x4 x5 → W p l e (rmX1_request mc0 ms0) s m args below meth c H locs k n (vx_MQ below (x_Qc D N0 (x_Vv (qCv ad XF post))) (x_XC D N0 (qXC ad XF postX)) args s mc0 ms0 (x_A N0)) (F0 m 42 ls [])) {F : (Nat → Int32)} {M : (Nat → Nat → Int32)} {h : x_H} {mc : Nat} {ms : Nat} {x1 : Option Nat} {x3 : Int32} {x4 : Int32} {x5 : Int32} {x6 : Nat} {k n : Nat} {H : Heap} {locs : List Loc} {ls : Array Slot} (hR : x_R D s N0 (fixC ad F M ++ XF) h H) (hS : va_S (x_A N0) s.heap H locs) (hk : k + mc ≤ mc0) (hn : n + ms ≤ ms0) (hl : lv_has ls 7 [(0, .ref (ad 1000)), (1, va_rf x1), (3, .int x3), (4, .int x4), (5, .int x5), (6, .ref x6)]) (hw : wX1_request_b138 post postX K42 gp ad F M h mc ms x1 x3 x4 x5 x6) : W p l e (rmX1_request mc0 ms0) s m args below meth c H locs k n (vx_MQ below (x_Qc D N0 (x_Vv (qCv ad XF post))) (x_XC D N0 (qXC ad XF postX)) args s mc0 ms0 (x_A N0)) (F0 m 138 ls [.ref (ad 1000)]) := by
  obtain ⟨⟨hx, hb, hml, hown, hts⟩, hr, hlocks, hG, hN⟩ := id C
  unfold wX1_request_b138 at hw
  refine lv_iconst (v := 0) hx hb dX1_request_138 (by decide) ?_
  exact kX1_request_b139 C hlt hxt hK42 hR hS hk hn (lv_sub hl [0, 1, 2, 3, 4, 5] rfl) hw
def wX1_request_b207 (post : (Nat → Int32) → (Nat → Nat → Int32) → x_H → Prop) (postX : String → (Nat → Int32) → (Nat → Nat → Int32) → x_H → Prop) (K42 : (Nat → Int32) → (Nat → Nat → Int32) → x_H → Nat → Nat → Option Nat → Option Nat → Int32 → Int32 → Int32 → Prop) (gp : Nat → Nat) (ad : Nat → Nat)  (F : (Nat → Int32)) (M : (Nat → Nat → Int32)) (h : x_H) (mc : Nat) (ms : Nat) (x1 : Option Nat) (x2 : Option Nat) (x5 : Int32) (x6 : Nat) (s0 : Int32) : Prop :=
  ∃ ca272 cb273 mc274 ms275 : Nat, ca272 + mc274 ≤ mc ∧ cb273 + ms275 ≤ ms ∧ wX1_want (fun F276 M276 h277 => ∃ (t279 : Nat) (fs280 : List Value), h277 x6 = some (t279, .inr (2, fs280)) ∧ wX3_value (fun r278 => ∃ a282 : Nat, r278 = some a282 ∧ wX1_numberOf (fun r283 => wX1_request_b220 post postX K42 gp ad F276 M276 h277 mc274 ms275 x1 x2 r283 1 x5) gp ad a282 F276 M276 h277) x6 h277) postX ad s0 1 F M h ca272 cb273
theorem kX1_request_b207 {post : (Nat → Int32) → (Nat → Nat → Int32) → x_H → Prop} {postX : String → (Nat → Int32) → (Nat → Nat → Int32) → x_H → Prop} {K42 : (Nat → Int32) → (Nat → Nat → Int32) → x_H → Nat → Nat → Option Nat → Option Nat → Int32 → Int32 → Int32 → Prop} (C : x_C p s m args meth c cX1_request 7 none RX1 D N0 gp) (hlt : l.stackTraces = false) (hxt : ∀ x ∈ c.exceptionTable.toList, False) (hK42 : ∀ (F : (Nat → Int32)) (M : (Nat → Nat → Int32)) (h : x_H) (mc : Nat) (ms : Nat) (x1 : Option Nat) (x2 : Option Nat) (x3 : Int32) (x4 : Int32) (x5 : Int32) (k n : Nat) (H : Heap) (locs : List Loc) (ls : Array Slot), x_R D s N0 (fixC ad F M ++ XF) h H → va_S (x_A N0) s.heap H locs → k + mc ≤ mc0 → n + ms ≤ ms0 → lv_has ls 7 [(0, .ref (ad 1000)), (1, va_rf x1), (2, va_rf x2), (3, .int x3), (4, .int x4), (5, .int x5)] → K42 F M h mc ms x1 x2 x3 x4 x5 → W p l e (rmX1_request mc0 ms0) s m args below meth c H locs k n (vx_MQ below (x_Qc D N0 (x_Vv (qCv ad XF post))) (x_XC D N0 (qXC ad XF postX)) args s mc0 ms0 (x_A N0)) (F0 m 42 ls [])) {F : (Nat → Int32)} {M : (Nat → Nat → Int32)} {h : x_H} {mc : Nat} {ms : Nat} {x1 : Option Nat} {x2 : Option Nat} {x5 : Int32} {x6 : Nat} {s0 : Int32} {k n : Nat} {H : Heap} {locs : List Loc} {ls : Array Slot} (hR : x_R D s N0 (fixC ad F M ++ XF) h H) (hS : va_S (x_A N0) s.heap H locs) (hk : k + mc ≤ mc0) (hn : n + ms ≤ ms0) (hl : lv_has ls 7 [(0, .ref (ad 1000)), (1, va_rf x1), (2, va_rf x2), (4, .int 1), (5, .int x5), (6, .ref x6)]) (hw : wX1_request_b207 post postX K42 gp ad F M h mc ms x1 x2 x5 x6 s0) : W p l e (rmX1_request mc0 ms0) s m args below meth c H locs k n (vx_MQ below (x_Qc D N0 (x_Vv (qCv ad XF post))) (x_XC D N0 (qXC ad XF postX)) args s mc0 ms0 (x_A N0)) (F0 m 207 ls [.int s0, .ref (ad 1000)]) := by
  obtain ⟨⟨hx, hb, hml, hown, hts⟩, hr, hlocks, hG, hN⟩ := id C
  unfold wX1_request_b207 at hw
  refine lv_iconst (v := 1) hx hb dX1_request_207 (by decide) ?_
  obtain ⟨ca272, cb273, mc274, ms275, hca272, hcb273, hw⟩ := hw
  refine x_callXv (x_runVX (n := 2) (As := [.int s0, .int 1]) C hR hS (kX1_want l D N0 gp ad XF s0 1 F M h ca272 cb273 _ _ hlt hw) (lw_V q606 q608 qs19 q85 q609) rfl rfl (by decide +kernel) ⟨Nat.le_of_ble_eq_true rfl, Nat.le_of_ble_eq_true rfl⟩ (x_recv C (hR.rdX 0 rfl) rfl) rfl hl.1 rfl (Nat.le_of_ble_eq_true rfl) dX1_request_208 ⟨x_bud hk hca272, x_bud hn hcb273⟩) hS (fun E9 ce9 q9 X9 h9 H9 locs9 hq9 hR9 hS9 hce9 hcv9 hcl9 => by obtain ⟨F9, M9, e9, hq9⟩ := hq9; rw [e9] at hR9; exact x_outX C hxt hR9 hS9 ⟨_, _, rfl, hq9⟩ hce9 hcv9 hcl9 (x_bud hk hca272) (x_bud hn hcb273)) (fun X1 h277 H locs hq hR hS => ?_)
  clear hw
  obtain ⟨F276, M276, e1, hw⟩ := hq
  rw [e1] at hR
  have hk := x_budN hk hca272
  have hn := x_budN hn hcb273
  refine lv_aload hx hb dX1_request_211 (lv_at hl 5 rfl) ?_
  obtain ⟨t279, fs280, he281, hw⟩ := hw
  refine x_calla0 (x_runV (n := 0) (As := []) C hR hS (kX3_value l D N0 gp _ x6 h277 _ hw) (lw_V q1014 q1015 q1016 q91 q1017) rfl rfl (by decide +kernel) ⟨Nat.le_of_ble_eq_true rfl, Nat.le_of_ble_eq_true rfl⟩ (x_recv C (hR.rdH he281) rfl) rfl hl.1 rfl (Nat.le_of_ble_eq_true rfl) dX1_request_213 ⟨x_bud0 hk, x_bud0 hn⟩) hS (fun r278 X1 h1 H locs hq hR hS => ?_)
  clear hw
  obtain ⟨e1, e2, hw⟩ := hq
  rw [e1, e2] at hR
  obtain ⟨a282, ea282, hw⟩ := hw
  rw [ea282]
  refine x_calli0 (x_runS (n := 1) (As := [.ref a282]) C hR hS (kX1_numberOf l D N0 gp ad XF a282 F276 M276 h277 _ hw) (lw_S q1030 q1031 q85 q1032) rfl rfl (by decide +kernel) ⟨Nat.le_of_ble_eq_true rfl, Nat.le_of_ble_eq_true rfl⟩ rfl hl.1 rfl (Nat.le_of_ble_eq_true rfl) dX1_request_216 ⟨x_bud0 hk, x_bud0 hn⟩) hS (fun r283 X1 h1 H locs hq hR hS => ?_)
  clear hw
  obtain ⟨e1, e2, hw⟩ := hq
  rw [e1, e2] at hR
  refine lv_istore_n (lv' := [(3, .int r283), (0, .ref (ad 1000)), (1, va_rf x1), (2, va_rf x2), (4, .int 1), (5, .int x5), (6, .ref x6)]) hx hb dX1_request_219 rfl hl (by decide) (by simp only [List.filter_cons, List.filter_nil, x_cat1]; rfl) (fun ls hl => ?_)
  exact kX1_request_b220 C hlt hxt hK42 hR hS hk hn (lv_sub hl [1, 2, 3, 0, 4, 5] rfl) hw
def wX1_request_b206 (post : (Nat → Int32) → (Nat → Nat → Int32) → x_H → Prop) (postX : String → (Nat → Int32) → (Nat → Nat → Int32) → x_H → Prop) (K42 : (Nat → Int32) → (Nat → Nat → Int32) → x_H → Nat → Nat → Option Nat → Option Nat → Int32 → Int32 → Int32 → Prop) (gp : Nat → Nat) (ad : Nat → Nat)  (F : (Nat → Int32)) (M : (Nat → Nat → Int32)) (h : x_H) (mc : Nat) (ms : Nat) (x1 : Option Nat) (x2 : Option Nat) (x5 : Int32) (x6 : Nat) : Prop :=
  wX1_request_b207 post postX K42 gp ad F M h mc ms x1 x2 x5 x6 0
theorem kX1_request_b206 {post : (Nat → Int32) → (Nat → Nat → Int32) → x_H → Prop} {postX : String → (Nat → Int32) → (Nat → Nat → Int32) → x_H → Prop} {K42 : (Nat → Int32) → (Nat → Nat → Int32) → x_H → Nat → Nat → Option Nat → Option Nat → Int32 → Int32 → Int32 → Prop} (C : x_C p s m args meth c cX1_request 7 none RX1 D N0 gp) (hlt : l.stackTraces = false) (hxt : ∀ x ∈ c.exceptionTable.toList, False) (hK42 : ∀ (F : (Nat → Int32)) (M : (Nat → Nat → Int32)) (h : x_H) (mc : Nat) (ms : Nat) (x1 : Option Nat) (x2 : Option Nat) (x3 : Int32) (x4 : Int32) (x5 : Int32) (k n : Nat) (H : Heap) (locs : List Loc) (ls : Array Slot), x_R D s N0 (fixC ad F M ++ XF) h H → va_S (x_A N0) s.heap H locs → k + mc ≤ mc0 → n + ms ≤ ms0 → lv_has ls 7 [(0, .ref (ad 1000)), (1, va_rf x1), (2, va_rf x2), (3, .int x3), (4, .int x4), (5, .int x5)] → K42 F M h mc ms x1 x2 x3 x4 x5 → W p l e (rmX1_request mc0 ms0) s m args below meth c H locs k n (vx_MQ below (x_Qc D N0 (x_Vv (qCv ad XF post))) (x_XC D N0 (qXC ad XF postX)) args s mc0 ms0 (x_A N0)) (F0 m 42 ls [])) {F : (Nat → Int32)} {M : (Nat → Nat → Int32)} {h : x_H} {mc : Nat} {ms : Nat} {x1 : Option Nat} {x2 : Option Nat} {x5 : Int32} {x6 : Nat} {k n : Nat} {H : Heap} {locs : List Loc} {ls : Array Slot} (hR : x_R D s N0 (fixC ad F M ++ XF) h H) (hS : va_S (x_A N0) s.heap H locs) (hk : k + mc ≤ mc0) (hn : n + ms ≤ ms0) (hl : lv_has ls 7 [(0, .ref (ad 1000)), (1, va_rf x1), (2, va_rf x2), (4, .int 1), (5, .int x5), (6, .ref x6)]) (hw : wX1_request_b206 post postX K42 gp ad F M h mc ms x1 x2 x5 x6) : W p l e (rmX1_request mc0 ms0) s m args below meth c H locs k n (vx_MQ below (x_Qc D N0 (x_Vv (qCv ad XF post))) (x_XC D N0 (qXC ad XF postX)) args s mc0 ms0 (x_A N0)) (F0 m 206 ls [.ref (ad 1000)]) := by
  obtain ⟨⟨hx, hb, hml, hown, hts⟩, hr, hlocks, hG, hN⟩ := id C
  unfold wX1_request_b206 at hw
  refine lv_iconst (v := 0) hx hb dX1_request_206 (by decide) ?_
  exact kX1_request_b207 C hlt hxt hK42 hR hS hk hn (lv_sub hl [0, 1, 2, 3, 4, 5] rfl) hw
def wX1_request_b317 (post : (Nat → Int32) → (Nat → Nat → Int32) → x_H → Prop) (postX : String → (Nat → Int32) → (Nat → Nat → Int32) → x_H → Prop) (gp : Nat → Nat) (ad : Nat → Nat)  (F : (Nat → Int32)) (M : (Nat → Nat → Int32)) (h : x_H) (mc : Nat) (ms : Nat) : Prop :=
  post F M h
theorem kX1_request_b317 {post : (Nat → Int32) → (Nat → Nat → Int32) → x_H → Prop} {postX : String → (Nat → Int32) → (Nat → Nat → Int32) → x_H → Prop} (C : x_C p s m args meth c cX1_request 7 none RX1 D N0 gp) (hlt : l.stackTraces = false) (hxt : ∀ x ∈ c.exceptionTable.toList, False) {F : (Nat → Int32)} {M : (Nat → Nat → Int32)} {h : x_H} {mc : Nat} {ms : Nat} {k n : Nat} {H : Heap} {locs : List Loc} {ls : Array Slot} (hR : x_R D s N0 (fixC ad F M ++ XF) h H) (hS : va_S (x_A N0) s.heap H locs) (hk : k + mc ≤ mc0) (hn : n + ms ≤ ms0) (hl : lv_has ls 7 []) (hw : wX1_request_b317 post postX gp ad F M h mc ms) : W p l e (rmX1_request mc0 ms0) s m args below meth c H locs k n (vx_MQ below (x_Qc D N0 (x_Vv (qCv ad XF post))) (x_XC D N0 (qXC ad XF postX)) args s mc0 ms0 (x_A N0)) (F0 m 317 ls []) := by
  obtain ⟨⟨hx, hb, hml, hown, hts⟩, hr, hlocks, hG, hN⟩ := id C
  unfold wX1_request_b317 at hw
  exact vx_ret (x_endv C hR hS ⟨rfl, ⟨_, _, rfl, hw⟩⟩ (x_le hk) (x_le hn) dX1_request_317)
def wX1_request_b240 (post : (Nat → Int32) → (Nat → Nat → Int32) → x_H → Prop) (postX : String → (Nat → Int32) → (Nat → Nat → Int32) → x_H → Prop) (gp : Nat → Nat) (ad : Nat → Nat)  (F : (Nat → Int32)) (M : (Nat → Nat → Int32)) (h : x_H) (mc : Nat) (ms : Nat) (x1 : Option Nat) (x2 : Option Nat) (x3 : Int32) (s0 : Int32) : Prop :=
  ∃ ca286 cb287 mc288 ms289 : Nat, ca286 + mc288 ≤ mc ∧ cb287 + ms289 ≤ ms ∧ wX1_want (fun F290 M290 h291 => ∃ (t293 : Nat) (fs294 : List Value), h291 (ad 2) = some (t293, .inr (7, fs294)) ∧ wJ2_size (fun r292 => ∃ (t298 : Nat) (fs299 : List Value), h291 (ad 2) = some (t298, .inr (7, fs299)) ∧ wJ2_remove (fun r296 h297 => ∃ a301 : Nat, r296 = some a301 ∧ ∃ (t302 : Nat) (fs303 : List Value), h297 a301 = some (t302, .inr (4, fs303)) ∧ ∃ (t307 : Nat) (fs308 : List Value), h297 a301 = some (t307, .inr (4, fs308)) ∧ wX5_begin (fun r305 h306 => ∃ a310 : Nat, r305 = some a310 ∧ ∃ (t317 : Nat) (fs318 : List Value), h306 (ad 1) = some (t317, .inr (7, fs318)) ∧ ∃ ca312 cb313 mc314 ms315 : Nat, ca312 + mc314 ≤ mc288 ∧ cb313 + ms315 ≤ ms289 ∧ wJ2_add (fun r311 h316 => ∃ (t320 : Nat) (fs321 : List Value), h316 a310 = some (t320, .inr (4, fs321)) ∧ t320 ≠ 1 ∧ 3 < fs321.length ∧ ∀ h325 : x_H, h325 = x_hs h316 a310 t320 (.inr (4, fs321.set 3 (.int x3))) → ∃ (t326 : Nat) (fs327 : List Value), h325 a310 = some (t326, .inr (4, fs327)) ∧ t326 ≠ 1 ∧ 7 < fs327.length ∧ ∀ h331 : x_H, h331 = x_hs h325 a310 t326 (.inr (4, fs327.set 7 (va_rf x1))) → ∃ (t332 : Nat) (fs333 : List Value), h331 a310 = some (t332, .inr (4, fs333)) ∧ t332 ≠ 1 ∧ 8 < fs333.length ∧ ∀ h337 : x_H, h337 = x_hs h331 a310 t332 (.inr (4, fs333.set 8 (va_rf x2))) → ((F290 17) = 0 → wX1_request_b317 post postX gp ad F290 M290 h337 mc314 ms315) ∧ (¬ (F290 17) = 0 → ∃ ca339 cb340 mc341 ms342 : Nat, ca339 + mc341 ≤ mc314 ∧ cb340 + ms342 ≤ ms315 ∧ wX1_close (fun F343 M343 h344 => wX1_request_b317 post postX gp ad F343 M343 h344 mc341 ms342) postX gp ad a310 F290 M290 h337 ca339 cb340)) gp (ad 1) a310 h306 ca312 cb313) a301 (F290 11) (F290 23) h297) (ad 2) (r292 - 1) h291) (ad 2) h291) postX ad s0 1 F M h ca286 cb287
theorem kX1_request_b240 {post : (Nat → Int32) → (Nat → Nat → Int32) → x_H → Prop} {postX : String → (Nat → Int32) → (Nat → Nat → Int32) → x_H → Prop} (C : x_C p s m args meth c cX1_request 7 none RX1 D N0 gp) (hlt : l.stackTraces = false) (hxt : ∀ x ∈ c.exceptionTable.toList, False) {F : (Nat → Int32)} {M : (Nat → Nat → Int32)} {h : x_H} {mc : Nat} {ms : Nat} {x1 : Option Nat} {x2 : Option Nat} {x3 : Int32} {s0 : Int32} {k n : Nat} {H : Heap} {locs : List Loc} {ls : Array Slot} (hR : x_R D s N0 (fixC ad F M ++ XF) h H) (hS : va_S (x_A N0) s.heap H locs) (hk : k + mc ≤ mc0) (hn : n + ms ≤ ms0) (hl : lv_has ls 7 [(0, .ref (ad 1000)), (1, va_rf x1), (2, va_rf x2), (3, .int x3)]) (hw : wX1_request_b240 post postX gp ad F M h mc ms x1 x2 x3 s0) : W p l e (rmX1_request mc0 ms0) s m args below meth c H locs k n (vx_MQ below (x_Qc D N0 (x_Vv (qCv ad XF post))) (x_XC D N0 (qXC ad XF postX)) args s mc0 ms0 (x_A N0)) (F0 m 240 ls [.int s0, .ref (ad 1000)]) := by
  obtain ⟨⟨hx, hb, hml, hown, hts⟩, hr, hlocks, hG, hN⟩ := id C
  unfold wX1_request_b240 at hw
  refine lv_iconst (v := 1) hx hb dX1_request_240 (by decide) ?_
  obtain ⟨ca286, cb287, mc288, ms289, hca286, hcb287, hw⟩ := hw
  refine x_callXv (x_runVX (n := 2) (As := [.int s0, .int 1]) C hR hS (kX1_want l D N0 gp ad XF s0 1 F M h ca286 cb287 _ _ hlt hw) (lw_V q606 q608 qs19 q85 q609) rfl rfl (by decide +kernel) ⟨Nat.le_of_ble_eq_true rfl, Nat.le_of_ble_eq_true rfl⟩ (x_recv C (hR.rdX 0 rfl) rfl) rfl hl.1 rfl (Nat.le_of_ble_eq_true rfl) dX1_request_241 ⟨x_bud hk hca286, x_bud hn hcb287⟩) hS (fun E9 ce9 q9 X9 h9 H9 locs9 hq9 hR9 hS9 hce9 hcv9 hcl9 => by obtain ⟨F9, M9, e9, hq9⟩ := hq9; rw [e9] at hR9; exact x_outX C hxt hR9 hS9 ⟨_, _, rfl, hq9⟩ hce9 hcv9 hcl9 (x_bud hk hca286) (x_bud hn hcb287)) (fun X1 h291 H locs hq hR hS => ?_)
  clear hw
  obtain ⟨F290, M290, e1, hw⟩ := hq
  rw [e1] at hR
  have hk := x_budN hk hca286
  have hn := x_budN hn hcb287
  refine lv_aload_n hx hb dX1_request_244 rfl (lv_at hl 0 rfl) ?_
  refine x_get (ci := 0) (Cn := RX1) (T := TX1) (N := 27) (v := .ref (ad 2)) C (hR.rdX 0 rfl) rfl in_X1 2 (by decide) q395 (fun _ h9 => h9) rfl dX1_request_245 ?_
  refine lv_aload_n hx hb dX1_request_248 rfl (lv_at hl 0 rfl) ?_
  refine x_get (ci := 0) (Cn := RX1) (T := TX1) (N := 27) (v := .ref (ad 2)) C (hR.rdX 0 rfl) rfl in_X1 2 (by decide) q395 (fun _ h9 => h9) rfl dX1_request_249 ?_
  obtain ⟨t293, fs294, he295, hw⟩ := hw
  refine x_calli0 (x_runV (n := 0) (As := []) C hR hS (kJ2_size l D N0 gp _ (ad 2) h291 _ hw) (lw_V q358 q359 q360 q88 q361) rfl rfl (by decide +kernel) ⟨Nat.le_of_ble_eq_true rfl, Nat.le_of_ble_eq_true rfl⟩ (x_recv C (hR.rdH he295) rfl) rfl hl.1 rfl (Nat.le_of_ble_eq_true rfl) dX1_request_252 ⟨x_bud0 hk, x_bud0 hn⟩) hS (fun r292 X1 h1 H locs hq hR hS => ?_)
  clear hw
  obtain ⟨e1, e2, hw⟩ := hq
  rw [e1, e2] at hR
  refine lv_iconst (v := 1) hx hb dX1_request_255 (by decide) ?_
  refine lv_isub hx hb dX1_request_256 ?_
  obtain ⟨t298, fs299, he300, hw⟩ := hw
  refine x_calla0 (x_runV (n := 1) (As := [.int (r292 - 1)]) C hR hS (kJ2_remove l D N0 gp _ (ad 2) (r292 - 1) h291 _ hw) (lw_V q362 q363 q364 q88 q365) rfl rfl (by decide +kernel) ⟨Nat.le_of_ble_eq_true rfl, Nat.le_of_ble_eq_true rfl⟩ (x_recv C (hR.rdH he300) rfl) rfl hl.1 rfl (Nat.le_of_ble_eq_true rfl) dX1_request_257 ⟨x_bud0 hk, x_bud0 hn⟩) hS (fun r296 X1 h297 H locs hq hR hS => ?_)
  clear hw
  obtain ⟨e1, hw⟩ := hq
  rw [e1] at hR
  obtain ⟨a301, ea301, hw⟩ := hw
  rw [ea301]
  obtain ⟨t302, fs303, he304, hw⟩ := hw
  refine x_castH (ci := 4) (Cn := RX5) (T := TX5) (N := 9) C hR he304 rfl q313 dX1_request_260 ?_
  refine lv_aload_n hx hb dX1_request_263 rfl (lv_at hl 0 rfl) ?_
  refine x_get (ci := 0) (Cn := RX1) (T := TX1) (N := 27) (v := .int (F290 11)) C (hR.rdX 0 rfl) rfl in_X1 11 (by decide) q404 (fun _ h9 => h9) rfl dX1_request_264 ?_
  refine lv_aload_n hx hb dX1_request_267 rfl (lv_at hl 0 rfl) ?_
  refine x_get (ci := 0) (Cn := RX1) (T := TX1) (N := 27) (v := .int (F290 23)) C (hR.rdX 0 rfl) rfl in_X1 23 (by decide) q416 (fun _ h9 => h9) rfl dX1_request_268 ?_
  obtain ⟨t307, fs308, he309, hw⟩ := hw
  refine x_calla0 (x_runV (n := 2) (As := [.int (F290 11), .int (F290 23)]) C hR hS (kX5_begin l D N0 gp _ a301 (F290 11) (F290 23) h297 _ hw) (lw_V q1033 q1034 q1035 q101 q1036) rfl rfl (by decide +kernel) ⟨Nat.le_of_ble_eq_true rfl, Nat.le_of_ble_eq_true rfl⟩ (x_recv C (hR.rdH he309) rfl) rfl hl.1 rfl (Nat.le_of_ble_eq_true rfl) dX1_request_271 ⟨x_bud0 hk, x_bud0 hn⟩) hS (fun r305 X1 h306 H locs hq hR hS => ?_)
  clear hw
  obtain ⟨e1, hw⟩ := hq
  rw [e1] at hR
  refine x_astoreO (lv' := [(5, va_rf r305), (0, .ref (ad 1000)), (1, va_rf x1), (2, va_rf x2), (3, .int x3)]) hx hb dX1_request_274 hl (by decide) rfl (fun ls hl => ?_)
  refine lv_aload_n hx hb dX1_request_276 rfl (lv_at hl 1 rfl) ?_
  refine x_get (ci := 0) (Cn := RX1) (T := TX1) (N := 27) (v := .ref (ad 1)) C (hR.rdX 0 rfl) rfl in_X1 1 (by decide) q394 (fun _ h9 => h9) rfl dX1_request_277 ?_
  refine x_aloadO hx hb dX1_request_280 (lv_at hl 0 rfl) ?_
  obtain ⟨a310, ea310, hw⟩ := hw
  rw [ea310]
  obtain ⟨t317, fs318, he319, hw⟩ := hw
  obtain ⟨ca312, cb313, mc314, ms315, hca312, hcb313, hw⟩ := hw
  refine x_calli (x_runV (n := 1) (As := [.ref a310]) C hR hS (kJ2_add l D N0 gp _ (ad 1) a310 h306 ca312 cb313 _ hw) (lw_V q353 q177 q178 q88 q179) rfl rfl (by decide +kernel) ⟨Nat.le_of_ble_eq_true rfl, Nat.le_of_ble_eq_true rfl⟩ (x_recv C (hR.rdH he319) rfl) rfl hl.1 rfl (Nat.le_of_ble_eq_true rfl) dX1_request_282 ⟨x_bud hk hca312, x_bud hn hcb313⟩) hS (fun r311 X1 h316 H locs hq hR hS => ?_)
  clear hw
  obtain ⟨e1, hw⟩ := hq
  rw [e1] at hR
  have hk := x_budN hk hca312
  have hn := x_budN hn hcb313
  refine lv_pop hx hb dX1_request_285 rfl ?_
  refine x_aloadO hx hb dX1_request_286 (lv_at hl 0 rfl) ?_
  rw [ea310]
  refine lv_iload_n hx hb dX1_request_288 rfl (lv_at hl 4 rfl) ?_
  obtain ⟨t320, fs321, he322, ht323, hl324, hw⟩ := hw
  refine x_putHN (ci := 4) (Cn := RX5) (T := TX5) (N := 9) (v := .int x3) C hR hS he322 ht323 rfl in_X5 tyX5_ok nmX5 3 (by decide) (x_nest C q326 rfl) (fun _ h9 => h9) rfl rfl rfl hl324 dX1_request_289 (fun H locs hR hS => ?_)
  obtain ⟨h325, eh325⟩ : ∃ z, z = x_hs h316 a310 t320 (.inr (4, fs321.set 3 (.int x3))) := ⟨_, rfl⟩
  rw [← eh325] at hR
  replace hw := hw h325 eh325
  refine x_aloadO hx hb dX1_request_292 (lv_at hl 0 rfl) ?_
  rw [ea310]
  refine x_aload_nO hx hb dX1_request_294 rfl (lv_at hl 2 rfl) ?_
  obtain ⟨t326, fs327, he328, ht329, hl330, hw⟩ := hw
  refine x_putHN (ci := 4) (Cn := RX5) (T := TX5) (N := 9) (v := va_rf x1) C hR hS he328 ht329 rfl in_X5 tyX5_ok nmX5 7 (by decide) (x_nest C q332 rfl) (fun _ h9 => h9) rfl (x_narO _ _) (x_fitO _ _) hl330 dX1_request_295 (fun H locs hR hS => ?_)
  obtain ⟨h331, eh331⟩ : ∃ z, z = x_hs h325 a310 t326 (.inr (4, fs327.set 7 (va_rf x1))) := ⟨_, rfl⟩
  rw [← eh331] at hR
  replace hw := hw h331 eh331
  refine x_aloadO hx hb dX1_request_298 (lv_at hl 0 rfl) ?_
  rw [ea310]
  refine x_aload_nO hx hb dX1_request_300 rfl (lv_at hl 3 rfl) ?_
  obtain ⟨t332, fs333, he334, ht335, hl336, hw⟩ := hw
  refine x_putHN (ci := 4) (Cn := RX5) (T := TX5) (N := 9) (v := va_rf x2) C hR hS he334 ht335 rfl in_X5 tyX5_ok nmX5 8 (by decide) (x_nest C q333 rfl) (fun _ h9 => h9) rfl (x_narO _ _) (x_fitO _ _) hl336 dX1_request_301 (fun H locs hR hS => ?_)
  obtain ⟨h337, eh337⟩ : ∃ z, z = x_hs h331 a310 t332 (.inr (4, fs333.set 8 (va_rf x2))) := ⟨_, rfl⟩
  rw [← eh337] at hR
  replace hw := hw h337 eh337
  refine lv_aload_n hx hb dX1_request_304 rfl (lv_at hl 1 rfl) ?_
  refine x_get (ci := 0) (Cn := RX1) (T := TX1) (N := 27) (v := .int (F290 17)) C (hR.rdX 0 rfl) rfl in_X1 17 (by decide) q410 (fun _ h9 => h9) rfl dX1_request_305 ?_
  refine lv_if_eq (tgt := 317) hx hb dX1_request_308 (by decide) (fun c338 => ?_) (fun c338 => ?_)
  · replace hw := hw.1 c338
    exact kX1_request_b317 C hlt hxt hR hS hk hn (lv_sub hl [] rfl) hw
  · replace hw := hw.2 c338
    refine lv_aload_n hx hb dX1_request_311 rfl (lv_at hl 1 rfl) ?_
    refine x_aloadO hx hb dX1_request_312 (lv_at hl 0 rfl) ?_
    rw [ea310]
    obtain ⟨ca339, cb340, mc341, ms342, hca339, hcb340, hw⟩ := hw
    refine x_callXv (x_runVX (n := 1) (As := [.ref a310]) C hR hS (kX1_close l D N0 gp ad XF a310 F290 M290 h337 ca339 cb340 _ _ hlt hw) (lw_V q624 q626 qs20 q85 q627) rfl rfl (by decide +kernel) ⟨Nat.le_of_ble_eq_true rfl, Nat.le_of_ble_eq_true rfl⟩ (x_recv C (hR.rdX 0 rfl) rfl) rfl hl.1 rfl (Nat.le_of_ble_eq_true rfl) dX1_request_314 ⟨x_bud hk hca339, x_bud hn hcb340⟩) hS (fun E9 ce9 q9 X9 h9 H9 locs9 hq9 hR9 hS9 hce9 hcv9 hcl9 => by obtain ⟨F9, M9, e9, hq9⟩ := hq9; rw [e9] at hR9; exact x_outX C hxt hR9 hS9 ⟨_, _, rfl, hq9⟩ hce9 hcv9 hcl9 (x_bud hk hca339) (x_bud hn hcb340)) (fun X1 h344 H locs hq hR hS => ?_)
    clear hw
    obtain ⟨F343, M343, e1, hw⟩ := hq
    rw [e1] at hR
    have hk := x_budN hk hca339
    have hn := x_budN hn hcb340
    exact kX1_request_b317 C hlt hxt hR hS hk hn (lv_sub hl [] rfl) hw
def wX1_request_b239 (post : (Nat → Int32) → (Nat → Nat → Int32) → x_H → Prop) (postX : String → (Nat → Int32) → (Nat → Nat → Int32) → x_H → Prop) (gp : Nat → Nat) (ad : Nat → Nat)  (F : (Nat → Int32)) (M : (Nat → Nat → Int32)) (h : x_H) (mc : Nat) (ms : Nat) (x1 : Option Nat) (x2 : Option Nat) (x3 : Int32) : Prop :=
  wX1_request_b240 post postX gp ad F M h mc ms x1 x2 x3 0
theorem kX1_request_b239 {post : (Nat → Int32) → (Nat → Nat → Int32) → x_H → Prop} {postX : String → (Nat → Int32) → (Nat → Nat → Int32) → x_H → Prop} (C : x_C p s m args meth c cX1_request 7 none RX1 D N0 gp) (hlt : l.stackTraces = false) (hxt : ∀ x ∈ c.exceptionTable.toList, False) {F : (Nat → Int32)} {M : (Nat → Nat → Int32)} {h : x_H} {mc : Nat} {ms : Nat} {x1 : Option Nat} {x2 : Option Nat} {x3 : Int32} {k n : Nat} {H : Heap} {locs : List Loc} {ls : Array Slot} (hR : x_R D s N0 (fixC ad F M ++ XF) h H) (hS : va_S (x_A N0) s.heap H locs) (hk : k + mc ≤ mc0) (hn : n + ms ≤ ms0) (hl : lv_has ls 7 [(0, .ref (ad 1000)), (1, va_rf x1), (2, va_rf x2), (3, .int x3)]) (hw : wX1_request_b239 post postX gp ad F M h mc ms x1 x2 x3) : W p l e (rmX1_request mc0 ms0) s m args below meth c H locs k n (vx_MQ below (x_Qc D N0 (x_Vv (qCv ad XF post))) (x_XC D N0 (qXC ad XF postX)) args s mc0 ms0 (x_A N0)) (F0 m 239 ls [.ref (ad 1000)]) := by
  obtain ⟨⟨hx, hb, hml, hown, hts⟩, hr, hlocks, hG, hN⟩ := id C
  unfold wX1_request_b239 at hw
  refine lv_iconst (v := 0) hx hb dX1_request_239 (by decide) ?_
  exact kX1_request_b240 C hlt hxt hR hS hk hn (lv_sub hl [0, 1, 2, 3] rfl) hw
def wX1_request_b226 (post : (Nat → Int32) → (Nat → Nat → Int32) → x_H → Prop) (postX : String → (Nat → Int32) → (Nat → Nat → Int32) → x_H → Prop) (gp : Nat → Nat) (ad : Nat → Nat)  (F : (Nat → Int32)) (M : (Nat → Nat → Int32)) (h : x_H) (mc : Nat) (ms : Nat) (x1 : Option Nat) (x2 : Option Nat) (x3 : Int32) : Prop :=
  (x1 = none → wX1_request_b239 post postX gp ad F M h mc ms none x2 x3) ∧ (∀ a284 : Nat, x1 = some a284 → (x2 = none → wX1_request_b239 post postX gp ad F M h mc ms (some a284) none x3) ∧ (∀ a285 : Nat, x2 = some a285 → wX1_request_b240 post postX gp ad F M h mc ms (some a284) (some a285) x3 1))
theorem kX1_request_b226 {post : (Nat → Int32) → (Nat → Nat → Int32) → x_H → Prop} {postX : String → (Nat → Int32) → (Nat → Nat → Int32) → x_H → Prop} (C : x_C p s m args meth c cX1_request 7 none RX1 D N0 gp) (hlt : l.stackTraces = false) (hxt : ∀ x ∈ c.exceptionTable.toList, False) {F : (Nat → Int32)} {M : (Nat → Nat → Int32)} {h : x_H} {mc : Nat} {ms : Nat} {x1 : Option Nat} {x2 : Option Nat} {x3 : Int32} {k n : Nat} {H : Heap} {locs : List Loc} {ls : Array Slot} (hR : x_R D s N0 (fixC ad F M ++ XF) h H) (hS : va_S (x_A N0) s.heap H locs) (hk : k + mc ≤ mc0) (hn : n + ms ≤ ms0) (hl : lv_has ls 7 [(0, .ref (ad 1000)), (1, va_rf x1), (2, va_rf x2), (3, .int x3)]) (hw : wX1_request_b226 post postX gp ad F M h mc ms x1 x2 x3) : W p l e (rmX1_request mc0 ms0) s m args below meth c H locs k n (vx_MQ below (x_Qc D N0 (x_Vv (qCv ad XF post))) (x_XC D N0 (qXC ad XF postX)) args s mc0 ms0 (x_A N0)) (F0 m 226 ls []) := by
  obtain ⟨⟨hx, hb, hml, hown, hts⟩, hr, hlocks, hG, hN⟩ := id C
  unfold wX1_request_b226 at hw
  refine lv_aload_n hx hb dX1_request_226 rfl (lv_at hl 0 rfl) ?_
  refine x_aload_nO hx hb dX1_request_227 rfl (lv_at hl 1 rfl) ?_
  cases x1 with
  | none =>
    replace hw := hw.1 rfl
    refine lv_ifnullN (tgt := 239) hx hb dX1_request_228 (by decide) ?_
    exact kX1_request_b239 C hlt hxt hR hS hk hn (lv_sub hl [0, 1, 2, 3] rfl) hw
  | some a284 =>
    replace hw := hw.2 a284 rfl
    refine lv_ifnull hx hb dX1_request_228 ?_
    refine x_aload_nO hx hb dX1_request_231 rfl (lv_at hl 2 rfl) ?_
    cases x2 with
    | none =>
      replace hw := hw.1 rfl
      refine lv_ifnullN (tgt := 239) hx hb dX1_request_232 (by decide) ?_
      exact kX1_request_b239 C hlt hxt hR hS hk hn (lv_sub hl [0, 1, 2, 3] rfl) hw
    | some a285 =>
      replace hw := hw.2 a285 rfl
      refine lv_ifnull hx hb dX1_request_232 ?_
      refine lv_iconst (v := 1) hx hb dX1_request_235 (by decide) ?_
      refine lv_goto (tgt := 240) hx hb dX1_request_236 (by decide) ?_
      exact kX1_request_b240 C hlt hxt hR hS hk hn (lv_sub hl [0, 1, 2, 3] rfl) hw
def tX1_request_b42 (post : (Nat → Int32) → (Nat → Nat → Int32) → x_H → Prop) (postX : String → (Nat → Int32) → (Nat → Nat → Int32) → x_H → Prop) (K42 : (Nat → Int32) → (Nat → Nat → Int32) → x_H → Nat → Nat → Option Nat → Option Nat → Int32 → Int32 → Int32 → Prop) (gp : Nat → Nat) (ad : Nat → Nat)  (F : (Nat → Int32)) (M : (Nat → Nat → Int32)) (h : x_H) (mc : Nat) (ms : Nat) (x1 : Option Nat) (x2 : Option Nat) (x3 : Int32) (x4 : Int32) (x5 : Int32) : Prop :=
  ∃ (t186 : Nat) (fs187 : List Value), h (ad 5) = some (t186, .inr (7, fs187)) ∧ wJ2_size (fun r185 => (r185 ≤ x5 → wX1_request_b226 post postX gp ad F M h mc ms x1 x2 x3) ∧ (¬ r185 ≤ x5 → ∃ (t191 : Nat) (fs192 : List Value), h (ad 5) = some (t191, .inr (7, fs192)) ∧ wJ2_get (fun r190 => ∃ a194 : Nat, r190 = some a194 ∧ ∃ (t195 : Nat) (fs196 : List Value), h a194 = some (t195, .inr (2, fs196)) ∧ ∃ (t199 : Nat) (fs200 : List Value), h a194 = some (t199, .inr (2, fs200)) ∧ wX3_name (fun r198 => ∃ a202 : Nat, r198 = some a202 ∧ ∃ (t204 : Nat) (fs205 : List Value), h a202 = some (t204, .inr (9, fs205)) ∧ wJ9_equals (fun r203 => (r203 = 0 → ∃ (t209 : Nat) (fs210 : List Value), h a194 = some (t209, .inr (2, fs210)) ∧ wX3_name (fun r208 => ∃ a212 : Nat, r208 = some a212 ∧ ∃ (t214 : Nat) (fs215 : List Value), h a212 = some (t214, .inr (9, fs215)) ∧ wJ9_equals (fun r213 => (r213 = 0 → ∃ (t219 : Nat) (fs220 : List Value), h a194 = some (t219, .inr (2, fs220)) ∧ wX3_name (fun r218 => ∃ a222 : Nat, r218 = some a222 ∧ wX1_isName (fun r223 => ∃ ca224 cb225 mc226 ms227 : Nat, ca224 + mc226 ≤ mc ∧ cb225 + ms227 ≤ ms ∧ wX1_want (fun F228 M228 h229 => ∃ (t231 : Nat) (fs232 : List Value), h229 a194 = some (t231, .inr (2, fs232)) ∧ wX3_name (fun r230 => ∃ a234 : Nat, r230 = some a234 ∧ ∃ (t236 : Nat) (fs237 : List Value), h229 a234 = some (t236, .inr (9, fs237)) ∧ wJ9_equals (fun r235 => (r235 = 0 → wX1_request_b220 post postX K42 gp ad F228 M228 h229 mc226 ms227 x1 x2 x3 1 x5) ∧ (¬ r235 = 0 → (x3 = (-1) → ∃ (t242 : Nat) (fs243 : List Value), h229 a194 = some (t242, .inr (2, fs243)) ∧ wX3_value (fun r241 => ∃ a245 : Nat, r241 = some a245 ∧ wX1_isNumber (fun r246 => (r246 = 0 → wX1_request_b206 post postX K42 gp ad F228 M228 h229 mc226 ms227 x1 x2 x5 a194) ∧ (¬ r246 = 0 → wX1_request_b207 post postX K42 gp ad F228 M228 h229 mc226 ms227 x1 x2 x5 a194 1)) gp ad a245 F228 M228 h229) a194 h229) ∧ (¬ x3 = (-1) → wX1_request_b206 post postX K42 gp ad F228 M228 h229 mc226 ms227 x1 x2 x5 a194))) a234 (gp 17) h229) a194 h229) postX ad r223 1 F M h ca224 cb225) gp ad a222 F M h) a194 h) ∧ (¬ r213 = 0 → (x4 = 0 → (x2 = none → wX1_request_b139 post postX K42 gp ad F M h mc ms x1 x3 x4 x5 a194 1) ∧ (∀ a249 : Nat, x2 = some a249 → wX1_request_b138 post postX K42 gp ad F M h mc ms x1 x3 x4 x5 a194)) ∧ (¬ x4 = 0 → wX1_request_b138 post postX K42 gp ad F M h mc ms x1 x3 x4 x5 a194))) a212 (gp 13) h) a194 h) ∧ (¬ r203 = 0 → (x4 = 0 → (x1 = none → wX1_request_b97 post postX K42 gp ad F M h mc ms x2 x3 x4 x5 a194 1) ∧ (∀ a251 : Nat, x1 = some a251 → wX1_request_b96 post postX K42 gp ad F M h mc ms x2 x3 x4 x5 a194)) ∧ (¬ x4 = 0 → wX1_request_b96 post postX K42 gp ad F M h mc ms x2 x3 x4 x5 a194))) a202 (gp 10) h) a194 h) (ad 5) x5 h)) (ad 5) h
def wX1_request_b42 (post : (Nat → Int32) → (Nat → Nat → Int32) → x_H → Prop) (postX : String → (Nat → Int32) → (Nat → Nat → Int32) → x_H → Prop) (gp : Nat → Nat) (ad : Nat → Nat)  : Nat → (Nat → Int32) → (Nat → Nat → Int32) → x_H → Nat → Nat → Option Nat → Option Nat → Int32 → Int32 → Int32 → Prop
  | 0 => fun _ _ _ _ _ _ _ _ _ _ => False
  | n + 1 => fun F M h mc ms x1 x2 x3 x4 x5 => tX1_request_b42 post postX (wX1_request_b42 post postX gp ad n) gp ad F M h mc ms x1 x2 x3 x4 x5
theorem kX1_request_b42 {post : (Nat → Int32) → (Nat → Nat → Int32) → x_H → Prop} {postX : String → (Nat → Int32) → (Nat → Nat → Int32) → x_H → Prop} (C : x_C p s m args meth c cX1_request 7 none RX1 D N0 gp) (hlt : l.stackTraces = false) (hxt : ∀ x ∈ c.exceptionTable.toList, False) : ∀ (nn : Nat) (F : (Nat → Int32)) (M : (Nat → Nat → Int32)) (h : x_H) (mc : Nat) (ms : Nat) (x1 : Option Nat) (x2 : Option Nat) (x3 : Int32) (x4 : Int32) (x5 : Int32) (k n : Nat) (H : Heap) (locs : List Loc) (ls : Array Slot), x_R D s N0 (fixC ad F M ++ XF) h H → va_S (x_A N0) s.heap H locs → k + mc ≤ mc0 → n + ms ≤ ms0 → lv_has ls 7 [(0, .ref (ad 1000)), (1, va_rf x1), (2, va_rf x2), (3, .int x3), (4, .int x4), (5, .int x5)] → wX1_request_b42 post postX gp ad nn F M h mc ms x1 x2 x3 x4 x5 → W p l e (rmX1_request mc0 ms0) s m args below meth c H locs k n (vx_MQ below (x_Qc D N0 (x_Vv (qCv ad XF post))) (x_XC D N0 (qXC ad XF postX)) args s mc0 ms0 (x_A N0)) (F0 m 42 ls []) := by
  obtain ⟨⟨hx, hb, hml, hown, hts⟩, hr, hlocks, hG, hN⟩ := id C
  intro nn
  induction nn with
  | zero =>
    intro F M h mc ms x1 x2 x3 x4 x5 k n H locs ls hR hS hk hn hl hw
    exact False.elim hw
  | succ nn ih =>
    intro F M h mc ms x1 x2 x3 x4 x5 k n H locs ls hR hS hk hn hl hw
    have hK42 := ih
    replace hw : tX1_request_b42 post postX (wX1_request_b42 post postX gp ad nn) gp ad F M h mc ms x1 x2 x3 x4 x5 := hw
    unfold tX1_request_b42 at hw
    refine lv_iload hx hb dX1_request_42 (lv_at hl 5 rfl) ?_
    refine lv_aload_n hx hb dX1_request_44 rfl (lv_at hl 0 rfl) ?_
    refine x_get (ci := 0) (Cn := RX1) (T := TX1) (N := 27) (v := .ref (ad 5)) C (hR.rdX 0 rfl) rfl in_X1 5 (by decide) q398 (fun _ h9 => h9) rfl dX1_request_45 ?_
    obtain ⟨t186, fs187, he188, hw⟩ := hw
    refine x_calli0 (x_runV (n := 0) (As := []) C hR hS (kJ2_size l D N0 gp _ (ad 5) h _ hw) (lw_V q358 q359 q360 q88 q361) rfl rfl (by decide +kernel) ⟨Nat.le_of_ble_eq_true rfl, Nat.le_of_ble_eq_true rfl⟩ (x_recv C (hR.rdH he188) rfl) rfl hl.1 rfl (Nat.le_of_ble_eq_true rfl) dX1_request_48 ⟨x_bud0 hk, x_bud0 hn⟩) hS (fun r185 X1 h1 H locs hq hR hS => ?_)
    clear hw
    obtain ⟨e1, e2, hw⟩ := hq
    rw [e1, e2] at hR
    refine lv_icmp_ge (tgt := 226) hx hb dX1_request_51 (by decide) (fun c189 => ?_) (fun c189 => ?_)
    · replace hw := hw.1 c189
      exact kX1_request_b226 C hlt hxt hR hS hk hn (lv_sub hl [0, 1, 2, 3] rfl) hw
    · replace hw := hw.2 c189
      refine lv_aload_n hx hb dX1_request_54 rfl (lv_at hl 0 rfl) ?_
      refine x_get (ci := 0) (Cn := RX1) (T := TX1) (N := 27) (v := .ref (ad 5)) C (hR.rdX 0 rfl) rfl in_X1 5 (by decide) q398 (fun _ h9 => h9) rfl dX1_request_55 ?_
      refine lv_iload hx hb dX1_request_58 (lv_at hl 5 rfl) ?_
      obtain ⟨t191, fs192, he193, hw⟩ := hw
      refine x_calla0 (x_runV (n := 1) (As := [.int x5]) C hR hS (kJ2_get l D N0 gp _ (ad 5) x5 h _ hw) (lw_V q598 q599 q600 q88 q601) rfl rfl (by decide +kernel) ⟨Nat.le_of_ble_eq_true rfl, Nat.le_of_ble_eq_true rfl⟩ (x_recv C (hR.rdH he193) rfl) rfl hl.1 rfl (Nat.le_of_ble_eq_true rfl) dX1_request_60 ⟨x_bud0 hk, x_bud0 hn⟩) hS (fun r190 X1 h1 H locs hq hR hS => ?_)
      clear hw
      obtain ⟨e1, e2, hw⟩ := hq
      rw [e1, e2] at hR
      obtain ⟨a194, ea194, hw⟩ := hw
      rw [ea194]
      obtain ⟨t195, fs196, he197, hw⟩ := hw
      refine x_castH (ci := 2) (Cn := RX3) (T := TX3) (N := 2) C hR he197 rfl q992 dX1_request_63 ?_
      refine lv_astore (lv' := [(6, .ref a194), (0, .ref (ad 1000)), (1, va_rf x1), (2, va_rf x2), (3, .int x3), (4, .int x4), (5, .int x5)]) hx hb dX1_request_66 hl (by decide) rfl (fun ls hl => ?_)
      refine lv_aload hx hb dX1_request_68 (lv_at hl 0 rfl) ?_
      obtain ⟨t199, fs200, he201, hw⟩ := hw
      refine x_calla0 (x_runV (n := 0) (As := []) C hR hS (kX3_name l D N0 gp _ a194 h _ hw) (lw_V q993 q952 q953 q91 q954) rfl rfl (by decide +kernel) ⟨Nat.le_of_ble_eq_true rfl, Nat.le_of_ble_eq_true rfl⟩ (x_recv C (hR.rdH he201) rfl) rfl hl.1 rfl (Nat.le_of_ble_eq_true rfl) dX1_request_70 ⟨x_bud0 hk, x_bud0 hn⟩) hS (fun r198 X1 h1 H locs hq hR hS => ?_)
      clear hw
      obtain ⟨e1, e2, hw⟩ := hq
      rw [e1, e2] at hR
      refine x_ldcSW (tx := ":m") (k := 10) C (by decide) dX1_request_73 ?_
      obtain ⟨a202, ea202, hw⟩ := hw
      rw [ea202]
      obtain ⟨t204, fs205, he206, hw⟩ := hw
      refine x_calli0 (x_runV (n := 1) (As := [.ref (gp 10)]) C hR hS (kJ9_equals l D N0 gp _ a202 (gp 10) h _ hw) (lw_V q633 q634 q635 q99 q636) rfl rfl (by decide +kernel) ⟨Nat.le_of_ble_eq_true rfl, Nat.le_of_ble_eq_true rfl⟩ (x_recv C (hR.rdH he206) rfl) rfl hl.1 rfl (Nat.le_of_ble_eq_true rfl) dX1_request_76 ⟨x_bud0 hk, x_bud0 hn⟩) hS (fun r203 X1 h1 H locs hq hR hS => ?_)
      clear hw
      obtain ⟨e1, e2, hw⟩ := hq
      rw [e1, e2] at hR
      refine lv_if_eq (tgt := 110) hx hb dX1_request_79 (by decide) (fun c207 => ?_) (fun c207 => ?_)
      · replace hw := hw.1 c207
        refine lv_aload hx hb dX1_request_110 (lv_at hl 0 rfl) ?_
        obtain ⟨t209, fs210, he211, hw⟩ := hw
        refine x_calla0 (x_runV (n := 0) (As := []) C hR hS (kX3_name l D N0 gp _ a194 h _ hw) (lw_V q993 q952 q953 q91 q954) rfl rfl (by decide +kernel) ⟨Nat.le_of_ble_eq_true rfl, Nat.le_of_ble_eq_true rfl⟩ (x_recv C (hR.rdH he211) rfl) rfl hl.1 rfl (Nat.le_of_ble_eq_true rfl) dX1_request_112 ⟨x_bud0 hk, x_bud0 hn⟩) hS (fun r208 X1 h1 H locs hq hR hS => ?_)
        clear hw
        obtain ⟨e1, e2, hw⟩ := hq
        rw [e1, e2] at hR
        refine x_ldcSW (tx := ":p") (k := 13) C (by decide) dX1_request_115 ?_
        obtain ⟨a212, ea212, hw⟩ := hw
        rw [ea212]
        obtain ⟨t214, fs215, he216, hw⟩ := hw
        refine x_calli0 (x_runV (n := 1) (As := [.ref (gp 13)]) C hR hS (kJ9_equals l D N0 gp _ a212 (gp 13) h _ hw) (lw_V q633 q634 q635 q99 q636) rfl rfl (by decide +kernel) ⟨Nat.le_of_ble_eq_true rfl, Nat.le_of_ble_eq_true rfl⟩ (x_recv C (hR.rdH he216) rfl) rfl hl.1 rfl (Nat.le_of_ble_eq_true rfl) dX1_request_118 ⟨x_bud0 hk, x_bud0 hn⟩) hS (fun r213 X1 h1 H locs hq hR hS => ?_)
        clear hw
        obtain ⟨e1, e2, hw⟩ := hq
        rw [e1, e2] at hR
        refine lv_if_eq (tgt := 152) hx hb dX1_request_121 (by decide) (fun c217 => ?_) (fun c217 => ?_)
        · replace hw := hw.1 c217
          refine lv_aload_n hx hb dX1_request_152 rfl (lv_at hl 1 rfl) ?_
          refine lv_aload hx hb dX1_request_153 (lv_at hl 0 rfl) ?_
          obtain ⟨t219, fs220, he221, hw⟩ := hw
          refine x_calla0 (x_runV (n := 0) (As := []) C hR hS (kX3_name l D N0 gp _ a194 h _ hw) (lw_V q993 q952 q953 q91 q954) rfl rfl (by decide +kernel) ⟨Nat.le_of_ble_eq_true rfl, Nat.le_of_ble_eq_true rfl⟩ (x_recv C (hR.rdH he221) rfl) rfl hl.1 rfl (Nat.le_of_ble_eq_true rfl) dX1_request_155 ⟨x_bud0 hk, x_bud0 hn⟩) hS (fun r218 X1 h1 H locs hq hR hS => ?_)
          clear hw
          obtain ⟨e1, e2, hw⟩ := hq
          rw [e1, e2] at hR
          obtain ⟨a222, ea222, hw⟩ := hw
          rw [ea222]
          refine x_calli0 (x_runS (n := 1) (As := [.ref a222]) C hR hS (kX1_isName l D N0 gp ad XF a222 F M h _ hw) (lw_S q1019 q1020 q85 q1021) rfl rfl (by decide +kernel) ⟨Nat.le_of_ble_eq_true rfl, Nat.le_of_ble_eq_true rfl⟩ rfl hl.1 rfl (Nat.le_of_ble_eq_true rfl) dX1_request_158 ⟨x_bud0 hk, x_bud0 hn⟩) hS (fun r223 X1 h1 H locs hq hR hS => ?_)
          clear hw
          obtain ⟨e1, e2, hw⟩ := hq
          rw [e1, e2] at hR
          refine lv_iconst (v := 1) hx hb dX1_request_161 (by decide) ?_
          obtain ⟨ca224, cb225, mc226, ms227, hca224, hcb225, hw⟩ := hw
          refine x_callXv (x_runVX (n := 2) (As := [.int r223, .int 1]) C hR hS (kX1_want l D N0 gp ad XF r223 1 F M h ca224 cb225 _ _ hlt hw) (lw_V q606 q608 qs19 q85 q609) rfl rfl (by decide +kernel) ⟨Nat.le_of_ble_eq_true rfl, Nat.le_of_ble_eq_true rfl⟩ (x_recv C (hR.rdX 0 rfl) rfl) rfl hl.1 rfl (Nat.le_of_ble_eq_true rfl) dX1_request_162 ⟨x_bud hk hca224, x_bud hn hcb225⟩) hS (fun E9 ce9 q9 X9 h9 H9 locs9 hq9 hR9 hS9 hce9 hcv9 hcl9 => by obtain ⟨F9, M9, e9, hq9⟩ := hq9; rw [e9] at hR9; exact x_outX C hxt hR9 hS9 ⟨_, _, rfl, hq9⟩ hce9 hcv9 hcl9 (x_bud hk hca224) (x_bud hn hcb225)) (fun X1 h229 H locs hq hR hS => ?_)
          clear hw
          obtain ⟨F228, M228, e1, hw⟩ := hq
          rw [e1] at hR
          have hk := x_budN hk hca224
          have hn := x_budN hn hcb225
          refine lv_iconst (v := 1) hx hb dX1_request_165 (by decide) ?_
          refine lv_istore (lv' := [(4, .int 1), (6, .ref a194), (0, .ref (ad 1000)), (1, va_rf x1), (2, va_rf x2), (3, .int x3), (5, .int x5)]) hx hb dX1_request_166 hl (by decide) rfl (fun ls hl => ?_)
          refine lv_aload hx hb dX1_request_168 (lv_at hl 1 rfl) ?_
          obtain ⟨t231, fs232, he233, hw⟩ := hw
          refine x_calla0 (x_runV (n := 0) (As := []) C hR hS (kX3_name l D N0 gp _ a194 h229 _ hw) (lw_V q993 q952 q953 q91 q954) rfl rfl (by decide +kernel) ⟨Nat.le_of_ble_eq_true rfl, Nat.le_of_ble_eq_true rfl⟩ (x_recv C (hR.rdH he233) rfl) rfl hl.1 rfl (Nat.le_of_ble_eq_true rfl) dX1_request_170 ⟨x_bud0 hk, x_bud0 hn⟩) hS (fun r230 X1 h1 H locs hq hR hS => ?_)
          clear hw
          obtain ⟨e1, e2, hw⟩ := hq
          rw [e1, e2] at hR
          refine x_ldcSW (tx := "length") (k := 17) C (by decide) dX1_request_173 ?_
          obtain ⟨a234, ea234, hw⟩ := hw
          rw [ea234]
          obtain ⟨t236, fs237, he238, hw⟩ := hw
          refine x_calli0 (x_runV (n := 1) (As := [.ref (gp 17)]) C hR hS (kJ9_equals l D N0 gp _ a234 (gp 17) h229 _ hw) (lw_V q633 q634 q635 q99 q636) rfl rfl (by decide +kernel) ⟨Nat.le_of_ble_eq_true rfl, Nat.le_of_ble_eq_true rfl⟩ (x_recv C (hR.rdH he238) rfl) rfl hl.1 rfl (Nat.le_of_ble_eq_true rfl) dX1_request_176 ⟨x_bud0 hk, x_bud0 hn⟩) hS (fun r235 X1 h1 H locs hq hR hS => ?_)
          clear hw
          obtain ⟨e1, e2, hw⟩ := hq
          rw [e1, e2] at hR
          refine lv_if_ne (tgt := 185) hx hb dX1_request_179 (by decide) (fun c239 => ?_) (fun c239 => ?_)
          · replace hw := hw.2 c239
            refine lv_aload_n hx hb dX1_request_185 rfl (lv_at hl 2 rfl) ?_
            refine lv_iload_n hx hb dX1_request_186 rfl (lv_at hl 5 rfl) ?_
            refine lv_iconst (v := -1) hx hb dX1_request_187 (by decide) ?_
            refine lv_icmp_ne (tgt := 206) hx hb dX1_request_188 (by decide) (fun c240 => ?_) (fun c240 => ?_)
            · replace hw := hw.2 c240
              exact kX1_request_b206 C hlt hxt hK42 hR hS hk hn (lv_sub hl [2, 3, 4, 0, 6, 1] rfl) hw
            · replace hw := hw.1 c240
              refine lv_aload hx hb dX1_request_191 (lv_at hl 1 rfl) ?_
              obtain ⟨t242, fs243, he244, hw⟩ := hw
              refine x_calla0 (x_runV (n := 0) (As := []) C hR hS (kX3_value l D N0 gp _ a194 h229 _ hw) (lw_V q1014 q1015 q1016 q91 q1017) rfl rfl (by decide +kernel) ⟨Nat.le_of_ble_eq_true rfl, Nat.le_of_ble_eq_true rfl⟩ (x_recv C (hR.rdH he244) rfl) rfl hl.1 rfl (Nat.le_of_ble_eq_true rfl) dX1_request_193 ⟨x_bud0 hk, x_bud0 hn⟩) hS (fun r241 X1 h1 H locs hq hR hS => ?_)
              clear hw
              obtain ⟨e1, e2, hw⟩ := hq
              rw [e1, e2] at hR
              obtain ⟨a245, ea245, hw⟩ := hw
              rw [ea245]
              refine x_calli0 (x_runS (n := 1) (As := [.ref a245]) C hR hS (kX1_isNumber l D N0 gp ad XF a245 F228 M228 h229 _ hw) (lw_S q1027 q1028 q85 q1029) rfl rfl (by decide +kernel) ⟨Nat.le_of_ble_eq_true rfl, Nat.le_of_ble_eq_true rfl⟩ rfl hl.1 rfl (Nat.le_of_ble_eq_true rfl) dX1_request_196 ⟨x_bud0 hk, x_bud0 hn⟩) hS (fun r246 X1 h1 H locs hq hR hS => ?_)
              clear hw
              obtain ⟨e1, e2, hw⟩ := hq
              rw [e1, e2] at hR
              refine lv_if_eq (tgt := 206) hx hb dX1_request_199 (by decide) (fun c247 => ?_) (fun c247 => ?_)
              · replace hw := hw.1 c247
                exact kX1_request_b206 C hlt hxt hK42 hR hS hk hn (lv_sub hl [2, 3, 4, 0, 6, 1] rfl) hw
              · replace hw := hw.2 c247
                refine lv_iconst (v := 1) hx hb dX1_request_202 (by decide) ?_
                refine lv_goto (tgt := 207) hx hb dX1_request_203 (by decide) ?_
                exact kX1_request_b207 C hlt hxt hK42 hR hS hk hn (lv_sub hl [2, 3, 4, 0, 6, 1] rfl) hw
          · replace hw := hw.1 c239
            refine lv_goto (tgt := 220) hx hb dX1_request_182 (by decide) ?_
            exact kX1_request_b220 C hlt hxt hK42 hR hS hk hn (lv_sub hl [2, 3, 4, 5, 0, 6] rfl) hw
        · replace hw := hw.2 c217
          refine lv_aload_n hx hb dX1_request_124 rfl (lv_at hl 1 rfl) ?_
          refine lv_iload hx hb dX1_request_125 (lv_at hl 5 rfl) ?_
          refine lv_if_ne (tgt := 138) hx hb dX1_request_127 (by decide) (fun c248 => ?_) (fun c248 => ?_)
          · replace hw := hw.2 c248
            exact kX1_request_b138 C hlt hxt hK42 hR hS hk hn (lv_sub hl [1, 2, 4, 5, 6, 0] rfl) hw
          · replace hw := hw.1 c248
            refine x_aload_nO hx hb dX1_request_130 rfl (lv_at hl 3 rfl) ?_
            cases x2 with
            | none =>
              replace hw := hw.1 rfl
              refine lv_ifnonnullN hx hb dX1_request_131 ?_
              refine lv_iconst (v := 1) hx hb dX1_request_134 (by decide) ?_
              refine lv_goto (tgt := 139) hx hb dX1_request_135 (by decide) ?_
              exact kX1_request_b139 C hlt hxt hK42 hR hS hk hn (lv_sub hl [1, 2, 4, 5, 6, 0] rfl) hw
            | some a249 =>
              replace hw := hw.2 a249 rfl
              refine lv_ifnonnull (tgt := 138) hx hb dX1_request_131 (by decide) ?_
              exact kX1_request_b138 C hlt hxt hK42 hR hS hk hn (lv_sub hl [1, 2, 4, 5, 6, 0] rfl) hw
      · replace hw := hw.2 c207
        refine lv_aload_n hx hb dX1_request_82 rfl (lv_at hl 1 rfl) ?_
        refine lv_iload hx hb dX1_request_83 (lv_at hl 5 rfl) ?_
        refine lv_if_ne (tgt := 96) hx hb dX1_request_85 (by decide) (fun c250 => ?_) (fun c250 => ?_)
        · replace hw := hw.2 c250
          exact kX1_request_b96 C hlt hxt hK42 hR hS hk hn (lv_sub hl [1, 3, 4, 5, 6, 0] rfl) hw
        · replace hw := hw.1 c250
          refine x_aload_nO hx hb dX1_request_88 rfl (lv_at hl 2 rfl) ?_
          cases x1 with
          | none =>
            replace hw := hw.1 rfl
            refine lv_ifnonnullN hx hb dX1_request_89 ?_
            refine lv_iconst (v := 1) hx hb dX1_request_92 (by decide) ?_
            refine lv_goto (tgt := 97) hx hb dX1_request_93 (by decide) ?_
            exact kX1_request_b97 C hlt hxt hK42 hR hS hk hn (lv_sub hl [1, 3, 4, 5, 6, 0] rfl) hw
          | some a251 =>
            replace hw := hw.2 a251 rfl
            refine lv_ifnonnull (tgt := 96) hx hb dX1_request_89 (by decide) ?_
            exact kX1_request_b96 C hlt hxt hK42 hR hS hk hn (lv_sub hl [1, 3, 4, 5, 6, 0] rfl) hw
def wX1_request_b25 (post : (Nat → Int32) → (Nat → Nat → Int32) → x_H → Prop) (postX : String → (Nat → Int32) → (Nat → Nat → Int32) → x_H → Prop) (gp : Nat → Nat) (ad : Nat → Nat)  (F : (Nat → Int32)) (M : (Nat → Nat → Int32)) (h : x_H) (mc : Nat) (ms : Nat) (s0 : Int32) : Prop :=
  ∃ ca178 cb179 mc180 ms181 : Nat, ca178 + mc180 ≤ mc ∧ cb179 + ms181 ≤ ms ∧ wX1_want (fun F182 M182 h183 => ∃ n184 : Nat, wX1_request_b42 post postX gp ad n184 F182 M182 h183 mc180 ms181 none none (-1) 0 0) postX ad s0 7 F M h ca178 cb179
theorem kX1_request_b25 {post : (Nat → Int32) → (Nat → Nat → Int32) → x_H → Prop} {postX : String → (Nat → Int32) → (Nat → Nat → Int32) → x_H → Prop} (C : x_C p s m args meth c cX1_request 7 none RX1 D N0 gp) (hlt : l.stackTraces = false) (hxt : ∀ x ∈ c.exceptionTable.toList, False) {F : (Nat → Int32)} {M : (Nat → Nat → Int32)} {h : x_H} {mc : Nat} {ms : Nat} {s0 : Int32} {k n : Nat} {H : Heap} {locs : List Loc} {ls : Array Slot} (hR : x_R D s N0 (fixC ad F M ++ XF) h H) (hS : va_S (x_A N0) s.heap H locs) (hk : k + mc ≤ mc0) (hn : n + ms ≤ ms0) (hl : lv_has ls 7 [(0, .ref (ad 1000))]) (hw : wX1_request_b25 post postX gp ad F M h mc ms s0) : W p l e (rmX1_request mc0 ms0) s m args below meth c H locs k n (vx_MQ below (x_Qc D N0 (x_Vv (qCv ad XF post))) (x_XC D N0 (qXC ad XF postX)) args s mc0 ms0 (x_A N0)) (F0 m 25 ls [.int s0, .ref (ad 1000)]) := by
  obtain ⟨⟨hx, hb, hml, hown, hts⟩, hr, hlocks, hG, hN⟩ := id C
  unfold wX1_request_b25 at hw
  refine lv_bipush (v := 7) hx hb dX1_request_25 (by decide) ?_
  obtain ⟨ca178, cb179, mc180, ms181, hca178, hcb179, hw⟩ := hw
  refine x_callXv (x_runVX (n := 2) (As := [.int s0, .int 7]) C hR hS (kX1_want l D N0 gp ad XF s0 7 F M h ca178 cb179 _ _ hlt hw) (lw_V q606 q608 qs19 q85 q609) rfl rfl (by decide +kernel) ⟨Nat.le_of_ble_eq_true rfl, Nat.le_of_ble_eq_true rfl⟩ (x_recv C (hR.rdX 0 rfl) rfl) rfl hl.1 rfl (Nat.le_of_ble_eq_true rfl) dX1_request_27 ⟨x_bud hk hca178, x_bud hn hcb179⟩) hS (fun E9 ce9 q9 X9 h9 H9 locs9 hq9 hR9 hS9 hce9 hcv9 hcl9 => by obtain ⟨F9, M9, e9, hq9⟩ := hq9; rw [e9] at hR9; exact x_outX C hxt hR9 hS9 ⟨_, _, rfl, hq9⟩ hce9 hcv9 hcl9 (x_bud hk hca178) (x_bud hn hcb179)) (fun X1 h183 H locs hq hR hS => ?_)
  clear hw
  obtain ⟨F182, M182, e1, hw⟩ := hq
  rw [e1] at hR
  have hk := x_budN hk hca178
  have hn := x_budN hn hcb179
  refine lv_null hx hb dX1_request_30 ?_
  refine lv_astore_nN (lv' := [(1, .null), (0, .ref (ad 1000))]) hx hb dX1_request_31 rfl hl (by decide) rfl (fun ls hl => ?_)
  refine lv_null hx hb dX1_request_32 ?_
  refine lv_astore_nN (lv' := [(2, .null), (1, .null), (0, .ref (ad 1000))]) hx hb dX1_request_33 rfl hl (by decide) rfl (fun ls hl => ?_)
  refine lv_iconst (v := -1) hx hb dX1_request_34 (by decide) ?_
  refine lv_istore_n (lv' := [(3, .int (-1)), (2, .null), (1, .null), (0, .ref (ad 1000))]) hx hb dX1_request_35 rfl hl (by decide) rfl (fun ls hl => ?_)
  refine lv_iconst (v := 0) hx hb dX1_request_36 (by decide) ?_
  refine lv_istore (lv' := [(4, .int 0), (3, .int (-1)), (2, .null), (1, .null), (0, .ref (ad 1000))]) hx hb dX1_request_37 hl (by decide) rfl (fun ls hl => ?_)
  refine lv_iconst (v := 0) hx hb dX1_request_39 (by decide) ?_
  refine lv_istore (lv' := [(5, .int 0), (4, .int 0), (3, .int (-1)), (2, .null), (1, .null), (0, .ref (ad 1000))]) hx hb dX1_request_40 hl (by decide) rfl (fun ls hl => ?_)
  obtain ⟨n184, hw⟩ := hw
  exact kX1_request_b42 C hlt hxt n184 _ _ _ _ _ _ _ _ _ _ _ _ _ _ _ hR hS hk hn (lv_sub hl [5, 4, 3, 2, 1, 0] rfl) hw
end
def wX1_request (post : (Nat → Int32) → (Nat → Nat → Int32) → x_H → Prop) (postX : String → (Nat → Int32) → (Nat → Nat → Int32) → x_H → Prop) (gp : Nat → Nat) (ad : Nat → Nat)  (F : (Nat → Int32)) (M : (Nat → Nat → Int32)) (h : x_H) (mc : Nat) (ms : Nat) : Prop :=
  ∃ (t174 : Nat) (fs175 : List Value), h (ad 1) = some (t174, .inr (7, fs175)) ∧ wJ2_size (fun r173 => ((4 : Int32) ≤ r173 → wX1_request_b25 post postX gp ad (upd F 18 (F 11)) M h mc ms 0) ∧ (¬ (4 : Int32) ≤ r173 → wX1_request_b25 post postX gp ad (upd F 18 (F 11)) M h mc ms 1)) (ad 1) h
theorem kX1_request (l : Launch) (D : va_G) (N0 : Nat) (gp : Nat → Nat) (ad : Nat → Nat) (XF : x_X)  (F : (Nat → Int32)) (M : (Nat → Nat → Int32)) (h : x_H) (mc : Nat) (ms : Nat) (post : (Nat → Int32) → (Nat → Nat → Int32) → x_H → Prop) (postX : String → (Nat → Int32) → (Nat → Nat → Int32) → x_H → Prop) (hlt : l.stackTraces = false) (hw : wX1_request post postX gp ad F M h mc ms) : vx_Met l yX1_request (ws_ yX1_request cX1_request 7 none) (rmX1_request mc ms) (x_Pc D N0 gp (fixC ad F M ++ XF) h [.ref (ad 1000)]) (x_Qc D N0 (x_Vv (qCv ad XF post))) (x_XC D N0 (qXC ad XF postX)) mc ms (x_A N0) := by
  refine x_startX (lv := [(0, .ref (ad 1000))]) (by decide) rfl (Nat.le_of_ble_eq_true rfl) rfl ?_
  intro p e s m below meth c C hxt hR ls hl
  have hS : va_S (x_A N0) s.heap s.heap [] := va_S.rf
  obtain ⟨⟨hx, hb, hml, hown, hts⟩, hr, hlocks, hG, hN⟩ := id C
  unfold wX1_request at hw
  have hk : 0 + mc ≤ mc := Nat.le_of_eq (Nat.zero_add _)
  have hn : 0 + ms ≤ ms := Nat.le_of_eq (Nat.zero_add _)
  refine lv_aload_n hx hb dX1_request_0 rfl (lv_at hl 0 rfl) ?_
  refine lv_aload_n hx hb dX1_request_1 rfl (lv_at hl 0 rfl) ?_
  refine x_get (ci := 0) (Cn := RX1) (T := TX1) (N := 27) (v := .int (F 11)) C (hR.rdX 0 rfl) rfl in_X1 11 (by decide) q404 (fun _ h9 => h9) rfl dX1_request_2 ?_
  refine x_putX (ci := 0) (Cn := RX1) (T := TX1) (N := 27) (v := .int (F 11)) C hR hS 0 rfl rfl in_X1 tyX1_ok nmX1 18 (by decide) q411 (fun _ h9 => h9) rfl rfl rfl (Nat.le_of_ble_eq_true rfl) (sC_f18 ..) dX1_request_5 (fun H locs hR hS => ?_)
  refine lv_aload_n hx hb dX1_request_8 rfl (lv_at hl 0 rfl) ?_
  refine lv_aload_n hx hb dX1_request_9 rfl (lv_at hl 0 rfl) ?_
  refine x_get (ci := 0) (Cn := RX1) (T := TX1) (N := 27) (v := .ref (ad 1)) C (hR.rdX 0 rfl) rfl in_X1 1 (by decide) q394 (fun _ h9 => h9) rfl dX1_request_10 ?_
  obtain ⟨t174, fs175, he176, hw⟩ := hw
  refine x_calli0 (x_runV (n := 0) (As := []) C hR hS (kJ2_size l D N0 gp _ (ad 1) h _ hw) (lw_V q358 q359 q360 q88 q361) rfl rfl (by decide +kernel) ⟨Nat.le_of_ble_eq_true rfl, Nat.le_of_ble_eq_true rfl⟩ (x_recv C (hR.rdH he176) rfl) rfl hl.1 rfl (Nat.le_of_ble_eq_true rfl) dX1_request_13 ⟨x_bud0 hk, x_bud0 hn⟩) hS (fun r173 X1 h1 H locs hq hR hS => ?_)
  clear hw
  obtain ⟨e1, e2, hw⟩ := hq
  rw [e1, e2] at hR
  refine lv_iconst (v := 4) hx hb dX1_request_16 (by decide) ?_
  refine lv_icmp_ge (tgt := 24) hx hb dX1_request_17 (by decide) (fun c177 => ?_) (fun c177 => ?_)
  · replace hw := hw.1 c177
    refine lv_iconst (v := 0) hx hb dX1_request_24 (by decide) ?_
    exact kX1_request_b25 C hlt hxt hR hS hk hn (lv_sub hl [0] rfl) hw
  · replace hw := hw.2 c177
    refine lv_iconst (v := 1) hx hb dX1_request_20 (by decide) ?_
    refine lv_goto (tgt := 25) hx hb dX1_request_21 (by decide) ?_
    exact kX1_request_b25 C hlt hxt hR hS hk hn (lv_sub hl [0] rfl) hw
