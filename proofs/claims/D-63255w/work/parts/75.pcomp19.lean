set_option maxRecDepth 100000
/-! PURE PART 49: the component: page -/
theorem zi_top (x : Int32) : (x.toUInt32 >>> ((24 : Int32).toUInt32 &&& Int32.toUInt32 31)).toInt32 = byteOf x 3 := by
  rw [← Int32.toBitVec_inj]
  show x.toBitVec >>> (24#32) = (BitVec.sshiftRight' x.toBitVec ((8#32 * 3#32 &&& 31#32).smod 32)) &&& 255#32
  have e1 : (8#32 * 3#32 &&& 31#32).smod 32 = 24#32 := by decide
  rw [e1]
  show x.toBitVec >>> (24#32).toNat = x.toBitVec.sshiftRight (24#32).toNat &&& 255#32
  have e2 : (24#32).toNat = 24 := by decide
  rw [e2]
  apply BitVec.eq_of_getLsbD_eq
  intro i hi
  have h255 : ∀ i : Nat, i < 32 → (255#32).getLsbD i = decide (i < 8) := by decide
  rw [BitVec.getLsbD_and, h255 i hi, BitVec.getLsbD_ushiftRight, BitVec.getLsbD_sshiftRight]
  by_cases h : i < 8
  · have h1 : 24 + i < 32 := by omega
    simp [h, h1, hi]
  · have h1 : ¬ 24 + i < 32 := by omega
    have h2 : x.toBitVec.getLsbD (24 + i) = false := BitVec.getLsbD_of_ge _ _ (by omega)
    simp [h, h2]
theorem c_text_step {post : Int32 → Prop} {v : Int32} {n k : Nat} (x1 x2 : Bool) (hk : k < 4) (hp : wX1_isText_b6 post v n (bitI (x1 || !(byteOf v k == 0))) (bitI (x2 && (!(x1 || !(byteOf v k == 0)) || isLet (byteOf v k)))) (Int32.ofNat k + (-1))) : wX1_isText_b6 post v (n + 1) (bitI x1) (bitI x2) (Int32.ofNat k) := by
  refine ⟨fun z => absurd z (zi_nonneg (by omega)), fun _ => ?_⟩
  show (bitI x1 = 0 → (byteOf v k = 0 → wX1_isText_b36 post (wX1_isText_b6 post v n) v (bitI x2) (Int32.ofNat k) (byteOf v k) 0) ∧ (¬ byteOf v k = 0 → wX1_isText_b36 post (wX1_isText_b6 post v n) v (bitI x2) (Int32.ofNat k) (byteOf v k) 1)) ∧ (¬ bitI x1 = 0 → wX1_isText_b36 post (wX1_isText_b6 post v n) v (bitI x2) (Int32.ofNat k) (byteOf v k) 1)
  have one : x1 = true ∨ byteOf v k ≠ 0 → wX1_isText_b36 post (wX1_isText_b6 post v n) v (bitI x2) (Int32.ofNat k) (byteOf v k) 1 := fun hc => by
    have e : (x1 || !(byteOf v k == 0)) = true := by rcases hc with q | q <;> simp [q]
    rw [e] at hp
    cases x2 with
    | false => exact ⟨fun _ => hp, fun z => absurd rfl z⟩
    | true =>
      refine ⟨fun z => absurd z (by decide), fun _ => ⟨fun z => absurd z (by decide), fun _ => c_isLetter (fun hl => ⟨fun z => absurd z (by decide), fun _ => ?_⟩) fun hl => ⟨fun _ => ?_, fun z => absurd rfl z⟩⟩⟩
      · rw [hl] at hp; exact hp
      · rw [hl] at hp; exact hp
  have zero : x1 = false → byteOf v k = 0 → wX1_isText_b36 post (wX1_isText_b6 post v n) v (bitI x2) (Int32.ofNat k) (byteOf v k) 0 := fun h1 h2 => by
    have e : (x1 || !(byteOf v k == 0)) = false := by simp [h1, h2]
    rw [e] at hp
    cases x2 with
    | false => exact ⟨fun _ => hp, fun z => absurd rfl z⟩
    | true => exact ⟨fun z => absurd z (by decide), fun _ => ⟨fun _ => hp, fun z => absurd rfl z⟩⟩
  cases x1 with
  | false => exact ⟨fun _ => ⟨fun w => zero rfl w, fun w => one (Or.inr w)⟩, fun z => absurd rfl z⟩
  | true => exact ⟨fun z => absurd z (by decide), fun _ => one (Or.inl rfl)⟩
theorem let_z (c : Int32) : (isLet c && (c == 0)) = false := by
  cases h : isLet c with
  | false => rfl
  | true => simp [let_ne h]
theorem text_bool : ∀ (l3 l2 l1 l0 z3 z2 z1 z0 : Bool), (l3 && z3) = false → (l2 && z2) = false → (l1 && z1) = false → (l0 && z0) = false →
    ((((true && (!(false || !z3) || l3)) && (!((false || !z3) || !z2) || l2)) && (!(((false || !z3) || !z2) || !z1) || l1)) && (!((((false || !z3) || !z2) || !z1) || !z0) || l0)) = ((l3 || z3) && (l2 || (z2 && z3)) && (l1 || (z1 && z2)) && (l0 || (z0 && z1))) := by decide
theorem c_isText {v : Int32} {post : Int32 → Prop} (hp : post (bitI (isText v))) : wX1_isText post v := by
  have e3 : Int32.ofNat 3 + (-1) = Int32.ofNat 2 := by decide
  have e2 : Int32.ofNat 2 + (-1) = Int32.ofNat 1 := by decide
  have e1 : Int32.ofNat 1 + (-1) = Int32.ofNat 0 := by decide
  have e0 : Int32.ofNat 0 + (-1) = -1 := by decide
  refine ⟨5, c_text_step (k := 3) false true (by decide) ?_⟩
  rw [e3]
  refine c_text_step (k := 2) _ _ (by decide) ?_
  rw [e2]
  refine c_text_step (k := 1) _ _ (by decide) ?_
  rw [e1]
  refine c_text_step (k := 0) _ _ (by decide) ?_
  rw [e0]
  refine ⟨fun _ => ?_, fun z => absurd (by decide) z⟩
  have ht : isText v = ((isLet (byteOf v 3) || byteOf v 3 == 0) && (isLet (byteOf v 2) || (byteOf v 2 == 0 && byteOf v 3 == 0)) && (isLet (byteOf v 1) || (byteOf v 1 == 0 && byteOf v 2 == 0)) && (isLet (byteOf v 0) || (byteOf v 0 == 0 && byteOf v 1 == 0))) := rfl
  rw [ht, ← text_bool _ _ _ _ _ _ _ _ (let_z _) (let_z _) (let_z _) (let_z _)] at hp
  generalize hq : bitI _ = x at hp ⊢
  unfold wX1_isText_b65
  refine ⟨?_, hp⟩
  rw [← hq]
  unfold bitI
  split
  · exact nb1
  · exact nb0
/-- one byte of a text -/
theorem c_app_step {ad : Nat → Nat} {h : x_H} {F : Nat → Int32} {M : Nat → Nat → Int32} {a t n k : Nat} {v : Int32} {cs : List Int32} {mc ms : Nat} {post : (Nat → Int32) → (Nat → Nat → Int32) → x_H → Prop} (hS : SB h a t cs) (hl : cs.length ≤ 40) (hk : k < 4) (hmc : 1 ≤ mc) (hms : 100 ≤ ms) (hv : byteOf v k ≠ 0 → isLet (byteOf v k) = true)
    (hp : ∀ h' m1 m2, SB h' a t (cs ++ (if byteOf v k = 0 then [] else [byteOf v k])) → kp [t] h h' → mc - 1 ≤ m1 → ms - 100 ≤ m2 → wX1_append_b2 post ad a v n F M h' m1 m2 (Int32.ofNat k + (-1))) : wX1_append_b2 post ad a v (n + 1) F M h mc ms (Int32.ofNat k) := by
  refine ⟨fun z => absurd z (zi_nonneg (by omega)), fun _ => ?_⟩
  obtain ⟨fs, hc⟩ := hS.cell
  refine ⟨fun z => ?_, fun z => ⟨_, _, hc, 1, 100, mc - 1, ms - 100, by omega, by omega, ?_⟩⟩
  · have z : byteOf v k = 0 := z
    rw [if_pos z, List.append_nil] at hp
    exact hp h mc ms hS kp.rf (by omega) (by omega)
  · have z : ¬ byteOf v k = 0 := z
    rw [if_neg z] at hp
    have hb := byteOf_ok v k
    have hlet := hv z
    simp only [isLet, decide_eq_true_iff] at hlet
    show wJ8_append_3 _ a (((byteOf v k).toUInt32 % 65536).toInt32) h 1 100
    rw [zi_u16 hb.1 hb.2]
    refine pJ8_append hS hl (by lia) (by omega) (by omega) fun h' hS' hk' => ?_
    rw [zi_asc hb.1 (by lia)] at hS'
    exact hp h' _ _ hS' hk' (Nat.le_refl _) (Nat.le_refl _)
theorem text_let {v : Int32} (hv : isText v = true) : ∀ k, k < 4 → byteOf v k ≠ 0 → isLet (byteOf v k) = true := by
  intro k hk hne
  rw [isText_okB] at hv
  simp only [okB, Bool.and_eq_true, Bool.or_eq_true, beq_iff_eq] at hv
  obtain ⟨⟨⟨h3, h2⟩, h1⟩, h0⟩ := hv
  rcases (show k = 0 ∨ k = 1 ∨ k = 2 ∨ k = 3 by omega) with rfl | rfl | rfl | rfl
  · exact h0.resolve_right fun q => hne q.1
  · exact h1.resolve_right fun q => hne q.1
  · exact h2.resolve_right fun q => hne q.1
  · exact h3.resolve_right fun q => hne q.1
theorem text_cat (v : Int32) (cs : List Int32) : (((cs ++ (if byteOf v 3 = 0 then [] else [byteOf v 3])) ++ (if byteOf v 2 = 0 then [] else [byteOf v 2])) ++ (if byteOf v 1 = 0 then [] else [byteOf v 1])) ++ (if byteOf v 0 = 0 then [] else [byteOf v 0]) = cs ++ textOf v := by
  unfold textOf
  by_cases h3 : byteOf v 3 = 0 <;> by_cases h2 : byteOf v 2 = 0 <;> by_cases h1 : byteOf v 1 = 0 <;> by_cases h0 : byteOf v 0 = 0 <;> simp [h3, h2, h1, h0]
theorem len01 (b : Int32) : (if b = 0 then ([] : List Int32) else [b]).length ≤ 1 := by split <;> simp
theorem c_append {ad : Nat → Nat} {h : x_H} {F : Nat → Int32} {M : Nat → Nat → Int32} {a t : Nat} {v : Int32} {cs : List Int32} {mc ms : Nat} {post : (Nat → Int32) → (Nat → Nat → Int32) → x_H → Prop} (hS : SB h a t cs) (hl : cs.length ≤ 30) (hv : isText v = true) (hmc : 4 ≤ mc) (hms : 400 ≤ ms)
    (hp : ∀ h', SB h' a t (cs ++ textOf v) → kp [t] h h' → post F M h') : wX1_append post ad a v F M h mc ms := by
  have e3 : Int32.ofNat 3 + (-1) = Int32.ofNat 2 := by decide
  have e2 : Int32.ofNat 2 + (-1) = Int32.ofNat 1 := by decide
  have e1 : Int32.ofNat 1 + (-1) = Int32.ofNat 0 := by decide
  have e0 : Int32.ofNat 0 + (-1) = -1 := by decide
  have l3 := len01 (byteOf v 3)
  have l2 := len01 (byteOf v 2)
  have l1 := len01 (byteOf v 1)
  refine ⟨5, c_app_step (k := 3) hS (by omega) (by decide) (by omega) (by omega) (text_let hv 3 (by decide)) fun h1 m1 n1 hS1 hk1 q1 r1 => ?_⟩
  rw [e3]
  refine c_app_step (k := 2) hS1 (by rw [List.length_append]; omega) (by decide) (by omega) (by omega) (text_let hv 2 (by decide)) fun h2 m2 n2 hS2 hk2 q2 r2 => ?_
  rw [e2]
  refine c_app_step (k := 1) hS2 (by rw [List.length_append, List.length_append]; omega) (by decide) (by omega) (by omega) (text_let hv 1 (by decide)) fun h3 m3 n3 hS3 hk3 q3 r3 => ?_
  rw [e1]
  refine c_app_step (k := 0) hS3 (by rw [List.length_append, List.length_append, List.length_append]; omega) (by decide) (by omega) (by omega) (text_let hv 0 (by decide)) fun h4 m4 n4 hS4 hk4 q4 r4 => ?_
  rw [e0]
  rw [text_cat] at hS4
  exact ⟨fun _ => hp h4 hS4 (((hk1.tr hk2).tr hk3).tr hk4), fun z => absurd (by decide) z⟩
