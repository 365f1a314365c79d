set_option maxRecDepth 100000
/-! PURE PART 7: the model's small methods -/
theorem zi_bit1 (x : Int32) : x &&& 1 = 0 ∨ x &&& 1 = 1 := by
  have := BitVec.and_twoPow (x.toBitVec) 0
  rw [← Int32.toBitVec_inj, ← Int32.toBitVec_inj, Int32.toBitVec_and]
  show x.toBitVec &&& BitVec.twoPow 32 0 = 0#32 ∨ x.toBitVec &&& BitVec.twoPow 32 0 = BitVec.twoPow 32 0
  rw [this]; split <;> simp
theorem zi_bit4 (x : Int32) : x &&& 4 = 0 ∨ x &&& 4 = 4 := by
  have := BitVec.and_twoPow (x.toBitVec) 2
  rw [← Int32.toBitVec_inj, ← Int32.toBitVec_inj, Int32.toBitVec_and]
  show x.toBitVec &&& BitVec.twoPow 32 2 = 0#32 ∨ x.toBitVec &&& BitVec.twoPow 32 2 = BitVec.twoPow 32 2
  rw [this]; split <;> simp
theorem zi_bit8 (x : Int32) : x &&& 8 = 0 ∨ x &&& 8 = 8 := by
  have := BitVec.and_twoPow (x.toBitVec) 3
  rw [← Int32.toBitVec_inj, ← Int32.toBitVec_inj, Int32.toBitVec_and]
  show x.toBitVec &&& BitVec.twoPow 32 3 = 0#32 ∨ x.toBitVec &&& BitVec.twoPow 32 3 = BitVec.twoPow 32 3
  rw [this]; split <;> simp
theorem zi_bits {f : Int32} (hf : f = 1 ∨ f = 4 ∨ f = 8) (x : Int32) : x &&& f ≤ 0 ↔ x &&& f = 0 := by
  rcases hf with rfl | rfl | rfl
  · rcases zi_bit1 x with e | e <;> rw [e] <;> decide
  · rcases zi_bit4 x with e | e <;> rw [e] <;> decide
  · rcases zi_bit8 x with e | e <;> rw [e] <;> decide
theorem nb0 : narrow .boolean (.int 0) = .int 0 := by decide
theorem nb1 : narrow .boolean (.int 1) = .int 1 := by decide
theorem m_has {G : Nat → Int32} {N : Nat → Nat → Int32} {s : SS} {f : Int32} {post : Int32 → Prop} (h : RM G N s) (hf : f = 1 ∨ f = 4 ∨ f = 8) (h1 : s.has f → post 1) (h0 : ¬ s.has f → post 0) : wX6_has post f G N := by
  unfold wX6_has
  rw [h.f 26, zi_bits hf]
  exact ⟨fun z => ⟨nb0, h0 (fun q => q z)⟩, fun z => ⟨nb1, h1 z⟩⟩
theorem m_outside {a b c : Int32} {post : Int32 → Prop} (h0 : b ≤ a → a ≤ c → post 0) (h1 : a < b ∨ c < a → post 1) : wX6_outside post a b c :=
  ⟨fun z => ⟨nb1, h1 (Or.inl z)⟩, fun z => ⟨fun w => ⟨nb0, h0 (by lia) w⟩, fun w => ⟨nb1, h1 (Or.inr (by lia))⟩⟩⟩
theorem c_outside {a b c : Int32} {post : Int32 → Prop} (h0 : b ≤ a → a ≤ c → post 0) (h1 : a < b ∨ c < a → post 1) : wX1_outside post a b c :=
  ⟨fun z => ⟨nb1, h1 (Or.inl z)⟩, fun z => ⟨fun w => ⟨nb0, h0 (by lia) w⟩, fun w => ⟨nb1, h1 (Or.inr (by lia))⟩⟩⟩
theorem m_isLetter {c : Int32} {post : Int32 → Prop} (h1 : isLet c = true → post 1) (h0 : isLet c = false → post 0) : wX6_isLetter post c := by
  refine ⟨fun z => ⟨nb0, h0 ?_⟩, fun z => ⟨fun w => ⟨nb0, h0 ?_⟩, fun w => ⟨nb1, h1 ?_⟩⟩⟩
  · simp only [isLet, decide_eq_false_iff_not]; lia
  · simp only [isLet, decide_eq_false_iff_not]; lia
  · simp only [isLet, decide_eq_true_iff]; lia
theorem c_isLetter {c : Int32} {post : Int32 → Prop} (h1 : isLet c = true → post 1) (h0 : isLet c = false → post 0) : wX1_isLetter post c := by
  refine c_outside (fun z w => ⟨fun _ => ⟨nb1, h1 ?_⟩, fun q => absurd rfl q⟩) (fun z => ⟨fun q => absurd q (by decide), fun _ => ⟨nb0, h0 ?_⟩⟩)
  · simp only [isLet, decide_eq_true_iff]; lia
  · simp only [isLet, decide_eq_false_iff_not]; lia
theorem m_idle {G : Nat → Int32} {N : Nat → Nat → Int32} {s : SS} {n : Int32} {post : Int32 → Prop} (h : RM G N s) (hn : 0 ≤ n) (hh : 0 ≤ s.g 47) (h1 : s.idle n → post 1) (h0 : ¬ s.idle n → post 0) : wX6_idle post n G N := by
  unfold wX6_idle
  rw [h.f 47]
  refine ⟨fun z => ⟨nb1, h1 ⟨by lia, Or.inr z⟩⟩, fun z => ⟨fun w => ⟨nb0, h0 fun q => q.1 (by lia)⟩, fun w => ⟨fun y => ⟨nb1, h1 ⟨by lia, Or.inl y⟩⟩, fun y => ⟨nb0, h0 fun q => q.2.elim y z⟩⟩⟩⟩
/-! streams -/
def InvS (sts : List St) : Prop := sts.length ≤ 4 ∧ sts.Pairwise (fun a b => a.num ≠ b.num) ∧ (∀ st ∈ sts, 0 < st.num ∧ st.num ≤ 255) ∧ (∀ st ∈ sts, 0 ≤ st.left ∧ st.left ≤ 60) ∧ (∀ st ∈ sts, st.closed = 0 ∨ st.closed = 1) ∧ (∀ st ∈ sts, st.meth = 0 ∨ st.meth = 1 ∨ st.meth = 2)
theorem InvS.len {l : List St} (h : InvS l) : l.length ≤ 4 := h.1
theorem InvS.ne {l : List St} (h : InvS l) : l.Pairwise (fun a b => a.num ≠ b.num) := h.2.1
theorem InvS.num {l : List St} (h : InvS l) : ∀ st ∈ l, 0 < st.num ∧ st.num ≤ 255 := h.2.2.1
theorem InvS.left {l : List St} (h : InvS l) : ∀ st ∈ l, 0 ≤ st.left ∧ st.left ≤ 60 := h.2.2.2.1
theorem InvS.closed {l : List St} (h : InvS l) : ∀ st ∈ l, st.closed = 0 ∨ st.closed = 1 := h.2.2.2.2.1
theorem InvS.meth {l : List St} (h : InvS l) : ∀ st ∈ l, st.meth = 0 ∨ st.meth = 1 ∨ st.meth = 2 := h.2.2.2.2.2
theorem InvS.inj {l : List St} (h : InvS l) {i j : Nat} {a b : St} (ha : l[i]? = some a) (hb : l[j]? = some b) (e : a.num = b.num) : i = j := by
  obtain ⟨hi, ea⟩ := List.getElem?_eq_some_iff.mp ha
  obtain ⟨hj, eb⟩ := List.getElem?_eq_some_iff.mp hb
  have h := List.pairwise_iff_getElem.mp h.ne
  rcases Nat.lt_trichotomy i j with q | q | q
  · exact absurd (by rw [ea, eb]; exact e) (h i j hi hj q)
  · exact q
  · exact absurd (by rw [ea, eb]; exact e.symm) (h j i hj hi q)
theorem InvS.uniq {l : List St} (h : InvS l) {a b : St} (ha : a ∈ l) (hb : b ∈ l) (e : a.num = b.num) : a = b := by
  obtain ⟨i, hi, e1⟩ := List.getElem_of_mem ha
  obtain ⟨j, hj, e2⟩ := List.getElem_of_mem hb
  have q1 : l[i]? = some a := by rw [List.getElem?_eq_getElem hi, e1]
  have q2 : l[j]? = some b := by rw [List.getElem?_eq_getElem hj, e2]
  have := h.inj q1 q2 e
  subst this
  rw [q1] at q2; exact Option.some.inj q2
theorem find_some {l : List St} {n : Int32} {st : St} (h : l.find? (fun st => st.num == n) = some st) : st ∈ l ∧ st.num = n :=
  ⟨List.mem_of_find?_eq_some h, by simpa using List.find?_some h⟩
theorem find_none {l : List St} {n : Int32} (h : l.find? (fun st => st.num == n) = none) : ∀ st ∈ l, st.num ≠ n := by
  intro st hs e
  have := List.find?_eq_none.mp h st hs
  simp [e] at this
theorem find_of {l : List St} (h : InvS l) {st : St} (hs : st ∈ l) : l.find? (fun q => q.num == st.num) = some st := by
  cases hf : l.find? (fun q => q.num == st.num) with
  | none => exact absurd rfl (find_none hf st hs)
  | some q =>
    obtain ⟨q1, q2⟩ := find_some hf
    rw [h.uniq q1 hs q2]
/-- the slot of an open stream -/
theorem RMs.at {N : Nat → Nat → Int32} {σ : List Nat} {l : List St} (h : RMs N σ l) (hi : InvS l) {st : St} (hs : st ∈ l) : ∃ j, j < 4 ∧ j ∈ σ ∧ slot N j st ∧ ∀ i, i < 4 → N 12 i = st.num → i = j := by
  obtain ⟨k, hk, e⟩ := List.getElem_of_mem hs
  have q1 : l[k]? = some st := by rw [List.getElem?_eq_getElem hk, e]
  obtain ⟨j, hj, r⟩ := h.all.get' q1
  refine ⟨j, h.lt j (List.mem_of_getElem? hj), List.mem_of_getElem? hj, r, fun i hi4 hn => ?_⟩
  have himem : i ∈ σ := by
    refine Decidable.byContradiction fun q => ?_
    have := h.out i hi4 q
    rw [hn] at this
    have := (hi.num st hs).1
    lia
  obtain ⟨k', hk', e'⟩ := List.getElem_of_mem himem
  have q2 : σ[k']? = some i := by rw [List.getElem?_eq_getElem hk', e']
  obtain ⟨st', hst', r'⟩ := h.all.get q2
  have := hi.inj hst' q1 (by rw [← r'.num, hn])
  subst this
  rw [hj] at q2
  exact (Option.some.inj q2).symm
theorem RMs.none {N : Nat → Nat → Int32} {σ : List Nat} {l : List St} (h : RMs N σ l) {n : Int32} (hn : n ≠ 0) (hs : ∀ st ∈ l, st.num ≠ n) : ∀ i, i < 4 → N 12 i ≠ n := by
  intro i hi4 e
  by_cases q : i ∈ σ
  · obtain ⟨st, h1, h2⟩ := h.all.mem q
    exact hs st h1 (by rw [← h2.num, e])
  · rw [h.out i hi4 q] at e
    exact hn e.symm
theorem m_slotOf1 {G : Nat → Int32} {N : Nat → Nat → Int32} {n : Int32} {post : Int32 → Prop} (hn : n ≤ 0 ∨ ∀ i, i < 4 → N 12 i ≠ n) (hp : post (-1)) : wX6_slotOf post n G N := by
  refine ⟨5, ?_⟩
  rcases hn with hn | hn
  · simp [wX6_slotOf_b4, tX6_slotOf_b4, wX6_slotOf_b27, wX6_slotOf_b28, wX6_slotOf_b35, hn, hp]
  · have h0 := hn 0 (by decide)
    have h1 := hn 1 (by decide)
    have h2 := hn 2 (by decide)
    have h3 := hn 3 (by decide)
    simp [wX6_slotOf_b4, tX6_slotOf_b4, wX6_slotOf_b27, wX6_slotOf_b28, wX6_slotOf_b35, hp, vp_in, h0, h1, h2, h3]
theorem m_slotOf2 {G : Nat → Int32} {N : Nat → Nat → Int32} {n : Int32} {j : Nat} {post : Int32 → Prop} (hj : j < 4) (h0 : 0 < n) (hn : N 12 j = n) (hu : ∀ i, i < 4 → N 12 i = n → i = j) (hp : post (Int32.ofNat j)) : wX6_slotOf post n G N := by
  refine ⟨5, ?_⟩
  have q0 := hu 0 (by decide)
  have q1 := hu 1 (by decide)
  have q2 := hu 2 (by decide)
  have q3 := hu 3 (by decide)
  have hh : ¬ n ≤ 0 := by lia
  rcases (show j = 0 ∨ j = 1 ∨ j = 2 ∨ j = 3 by omega) with rfl | rfl | rfl | rfl
  all_goals simp [wX6_slotOf_b4, tX6_slotOf_b4, wX6_slotOf_b27, wX6_slotOf_b28, wX6_slotOf_b35, vp_in, hh, hn] at *
  all_goals simp_all
theorem m_slotOf {G : Nat → Int32} {N : Nat → Nat → Int32} {s : SS} {n : Int32} {post : Int32 → Prop} {σ : List Nat} (h : RMs N σ s.sts) (hi : InvS s.sts) (h0 : s.find n = none → post (-1)) (h1 : ∀ st j, s.find n = some st → st ∈ s.sts → st.num = n → j < 4 → j ∈ σ → slot N j st → (∀ i, i < 4 → N 12 i = n → i = j) → post (Int32.ofNat j)) : wX6_slotOf post n G N := by
  cases hf : s.find n with
  | none =>
    refine m_slotOf1 ?_ (h0 hf)
    by_cases hn : n ≤ 0
    · exact Or.inl hn
    · exact Or.inr (h.none (by lia) (find_none hf))
  | some st =>
    obtain ⟨q1, q2⟩ := find_some hf
    obtain ⟨j, j1, j2, j3, j4⟩ := h.at hi q1
    rw [q2] at j4
    exact m_slotOf2 j1 (by rw [← q2]; exact (hi.num st q1).1) (by rw [j3.num, q2]) j4 (h1 st j hf q1 q2 j1 j2 j3 j4)
theorem zi_neg1 {j : Nat} (hj : j < 2147483648) : Int32.ofNat j ≠ -1 := fun z => by
  have := congrArg Int32.toInt z
  rw [zi_toInt hj] at this
  have e : (-1 : Int32).toInt = -1 := by decide
  omega
theorem cnt4 : ∀ σ : List Nat, σ.Nodup → (∀ i ∈ σ, i < 4) → σ.length = (if 0 ∈ σ then 1 else 0) + (if 1 ∈ σ then 1 else 0) + (if 2 ∈ σ then 1 else 0) + (if 3 ∈ σ then 1 else 0)
  | [], _, _ => by simp
  | a :: l, hn, hl => by
    have ih := cnt4 l (List.nodup_cons.mp hn).2 (fun i hi => hl i (by simp [hi]))
    have ha := hl a (by simp)
    have hm := (List.nodup_cons.mp hn).1
    rcases (show a = 0 ∨ a = 1 ∨ a = 2 ∨ a = 3 by omega) with rfl | rfl | rfl | rfl
    all_goals simp [List.mem_cons, hm] at ih ⊢; omega
theorem m_open {G : Nat → Int32} {N : Nat → Nat → Int32} {l : List St} {post : Int32 → Prop} {σ : List Nat} (h : RMs N σ l) (hi : InvS l) (hp : post (Int32.ofNat l.length)) : wX6_open post G N := by
  have key : ∀ i, i < 4 → ((N 12 i ≤ 0) ↔ i ∉ σ) := by
    intro i hi4
    constructor
    · intro z q
      obtain ⟨st, h1, h2⟩ := h.all.mem q
      have := (hi.num st h1).1
      rw [h2.num] at z
      lia
    · intro q; rw [h.out i hi4 q]; decide
  have hc := cnt4 σ h.nd h.lt
  rw [← h.all.len, hc] at hp
  have k0 := key 0 (by decide)
  have k1 := key 1 (by decide)
  have k2 := key 2 (by decide)
  have k3 := key 3 (by decide)
  refine ⟨5, ?_⟩
  simp only [wX6_open_b4, tX6_open_b4, wX6_open_b25, wX6_open_b32]
  simp [vp_in, k0, k1, k2, k3]
  by_cases q0 : 0 ∈ σ <;> by_cases q1 : 1 ∈ σ <;> by_cases q2 : 2 ∈ σ <;> by_cases q3 : 3 ∈ σ <;> simp [q0, q1, q2, q3] at hp ⊢ <;> exact hp
/-- one slot changed in some of its arrays; its stream changed alike -/
theorem RMs.mod {N N' : Nat → Nat → Int32} {σ : List Nat} {l : List St} {n : Int32} {f : St → St} {j : Nat} (h : RMs N σ l) (hi : InvS l) (hj : j ∈ σ) (hn : N 12 j = n) (hq : ∀ k, k ∈ [12, 13, 14, 15, 16, 17, 18, 19, 20] → ∀ i, i ≠ j → N' k i = N k i) (h21 : N' 21 = N 21) (h12 : N' 12 j = N 12 j) (hf : ∀ st, st ∈ l → slot N j st → slot N' j (f st)) : RMs N' σ (l.map (fun st => if st.num = n then f st else st)) := by
  refine ⟨h.all.mapR fun i st hi1 hs r => ?_, h.nd, h.lt, fun i h4 hi2 => ?_⟩
  · by_cases e : st.num = n
    · rw [if_pos e]
      have : i = j := by
        obtain ⟨a, ha, ea⟩ := List.getElem_of_mem hi1
        obtain ⟨b, hb, eb⟩ := List.getElem_of_mem hj
        have a1 : σ[a]? = some i := by rw [List.getElem?_eq_getElem ha, ea]
        have b1 : σ[b]? = some j := by rw [List.getElem?_eq_getElem hb, eb]
        obtain ⟨sa, sa1, sa2⟩ := h.all.get a1
        obtain ⟨sb, sb1, sb2⟩ := h.all.get b1
        have := hi.inj sa1 sb1 (by rw [← sa2.num, ← sb2.num, hn, r.num, e])
        subst this
        rw [a1] at b1; exact Option.some.inj b1
      subst this
      exact hf st hs r
    · rw [if_neg e]
      have hij : i ≠ j := fun z => e (by rw [← r.num, z, hn])
      exact r.cong (fun k hk => hq k hk i hij) h21
  · have hij : i ≠ j := fun z => hi2 (by rw [z]; exact hj)
    rw [hq 12 (by decide) i hij]; exact h.out i h4 hi2
/-- a slot set free -/
theorem RMs.free {N : Nat → Nat → Int32} {σ : List Nat} {l : List St} {n : Int32} {j : Nat} (h : RMs N σ l) (hi : InvS l) (hj : j ∈ σ) (hn : N 12 j = n) : RMs (va_up N 12 (upd (N 12) j 0)) (σ.filter (fun i => i != j)) (l.filter (fun st => st.num != n)) := by
  have e : ∀ k, k ≠ 12 → va_up N 12 (upd (N 12) j 0) k = N k := fun k hk => by simp [va_up, hk]
  have e12 : ∀ i, i ≠ j → va_up N 12 (upd (N 12) j 0) 12 i = N 12 i := fun i hij => by simp [va_up, upd, hij]
  refine ⟨?_, h.nd.filter _, fun i hi1 => h.lt i (List.mem_filter.mp hi1).1, fun i h4 hi2 => ?_⟩
  · have h1 : All2 (slot N) (σ.filter (fun i => i != j)) (l.filter (fun st => st.num != n)) := h.all.filter fun i st hi1 hs r => by
      by_cases z : i = j
      · subst z; simp [← r.num, hn]
      · have : st.num ≠ n := fun q => z (by
          obtain ⟨a, ha, ea⟩ := List.getElem_of_mem hi1
          obtain ⟨b, hb, eb⟩ := List.getElem_of_mem hj
          have a1 : σ[a]? = some i := by rw [List.getElem?_eq_getElem ha, ea]
          have b1 : σ[b]? = some j := by rw [List.getElem?_eq_getElem hb, eb]
          obtain ⟨sa, sa1, sa2⟩ := h.all.get a1
          obtain ⟨sb, sb1, sb2⟩ := h.all.get b1
          have := hi.inj sa1 sb1 (by rw [← sa2.num, ← sb2.num, hn, r.num, q])
          subst this
          rw [a1] at b1; exact Option.some.inj b1)
        show (i != j) = (st.num != n)
        rw [bne_iff_ne.mpr z, bne_iff_ne.mpr this]
    refine h1.imp fun i st hi1 hs r => ?_
    have hij : i ≠ j := by have := (List.mem_filter.mp hi1).2; simpa using this
    exact r.cong (fun k hk => by
      by_cases q : k = 12
      · subst q; exact e12 i hij
      · rw [e k q]) (e 21 (by decide))
  · by_cases z : i = j
    · subst z; simp [va_up, upd]
    · rw [e12 i z]
      refine h.out i h4 fun q => hi2 (List.mem_filter.mpr ⟨q, by simpa using z⟩)
theorem m_end {G : Nat → Int32} {N : Nat → Nat → Int32} {s : SS} {n : Int32} {post : (Nat → Int32) → (Nat → Nat → Int32) → Prop} (h : RM G N s) (hi : InvS s.sts) (hp : ∀ G' N', RM G' N' (SS.over n s) → post G' N') : wX6_end post n G N := by
  obtain ⟨σ, hσ⟩ := h.st
  refine m_slotOf (s := s) hσ hi (fun hf => ⟨fun _ => hp _ _ ?_, fun z => absurd rfl z⟩) (fun st j hf hs hn j1 j2 j3 j4 => ⟨fun z => ?_, fun _ => ⟨zi_in j1 (by decide), hp _ _ ?_⟩⟩)
  · have : SS.over n s = s := by
      have e : s.sts.filter (fun st => st.num != n) = s.sts := List.filter_eq_self.mpr fun st hs => by simpa using find_none hf st hs
      unfold SS.over
      rw [e]; rfl
    rw [this]; exact h
  · exact absurd z (zi_neg1 (by omega))
  · rw [zi_nat (by omega)]
    exact h.sts (hσ.free hi j2 (by rw [j3.num, hn])) fun k hk => by
      have : k ≠ 12 := fun q => hk (by subst q; decide)
      simp [va_up, this]
