set_option maxRecDepth 100000
/-! PURE PART 24: pumping ends, and says so much at most -/
def sumW (w : St → Nat) : List St → Nat
  | [] => 0
  | a :: l => w a + sumW w l
theorem sumW_filter (w : St → Nat) (p : St → Bool) : ∀ l : List St, sumW w (l.filter p) ≤ sumW w l
  | [] => Nat.le_refl _
  | a :: l => by
    have ih := sumW_filter w p l
    rw [List.filter_cons]
    split
    · simp only [sumW]; omega
    · simp only [sumW]; omega
theorem sumW_id {w : St → Nat} {n : Int32} {f : St → St} : ∀ {l : List St}, (∀ q ∈ l, q.num ≠ n) → sumW w (l.map (fun q => if q.num = n then f q else q)) = sumW w l
  | [], _ => rfl
  | a :: l, h => by
    have ih := sumW_id (w := w) (n := n) (f := f) (l := l) fun q hq => h q (by simp [hq])
    rw [List.map_cons, if_neg (h a (by simp))]
    simp only [sumW, ih]
theorem sumW_mod {w : St → Nat} {f : St → St} {st : St} : ∀ {l : List St}, l.Pairwise (fun a b => a.num ≠ b.num) → st ∈ l → sumW w (l.map (fun q => if q.num = st.num then f q else q)) + w st = sumW w l + w (f st)
  | [], _, h => by cases h
  | a :: l, hp, h => by
    obtain ⟨h1, h2⟩ := List.pairwise_cons.mp hp
    rw [List.map_cons]
    rcases List.mem_cons.mp h with e | e
    · subst e
      have := sumW_id (w := w) (n := st.num) (f := f) (l := l) fun q hq => Ne.symm (h1 q hq)
      rw [if_pos rfl]
      simp only [sumW, this]; omega
    · have ih := sumW_mod (w := w) (f := f) h2 e
      rw [if_neg (h1 st e)]
      simp only [sumW]; omega
theorem sumW_le {w : St → Nat} {c : Nat} : ∀ {l : List St}, (∀ q ∈ l, w q ≤ c) → sumW w l ≤ c * l.length
  | [], _ => by simp [sumW]
  | a :: l, h => by
    have ih := sumW_le (w := w) (c := c) (l := l) fun q hq => h q (by simp [hq])
    have := h a (by simp)
    simp only [sumW, List.length_cons, Nat.mul_succ]; omega
def leftW (st : St) : Nat := st.left.toNatClampNeg
def potW (st : St) : Nat := 5 * st.left.toNatClampNeg + if can st then 16 else 0
def leftN (s : SS) : Nat := sumW leftW s.sts
def potN (s : SS) : Nat := sumW potW s.sts + if 0 < s.g 50 then 16 else 0
theorem imin_ok (a b : Int32) : imin a b ≤ a ∧ imin a b ≤ b ∧ (imin a b = a ∨ imin a b = b) := by
  unfold imin; split <;> refine ⟨by lia, by lia, ?_⟩
  · exact Or.inr rfl
  · exact Or.inl rfl
/-- how much is sent at once -/
def pumpN (s : SS) (st : St) : Int32 := imin (imin st.left st.win) (imin (s.g 50) (s.g 52))
theorem pumpN_ok {s : SS} (hI : Inv s) {st : St} (hs : st ∈ s.sts) (hc : can st) (h50 : 0 < s.g 50) : 1 ≤ pumpN s st ∧ pumpN s st ≤ st.left ∧ pumpN s st ≤ st.win ∧ pumpN s st ≤ s.g 50 ∧ (pumpN s st = st.left ∨ pumpN s st = st.win ∨ pumpN s st = s.g 50 ∨ 16 ≤ pumpN s st) := by
  have h1 := hI.sts.left st hs
  have h2 := hI.g52
  obtain ⟨a1, a2, a3⟩ := imin_ok st.left st.win
  obtain ⟨b1, b2, b3⟩ := imin_ok (s.g 50) (s.g 52)
  obtain ⟨c1, c2, c3⟩ := imin_ok (imin st.left st.win) (imin (s.g 50) (s.g 52))
  have hl : 0 < st.left := by have := hc.1; lia
  have hw := hc.2
  unfold pumpN
  rcases c3 with e | e <;> rcases a3 with e1 | e1 <;> rcases b3 with e2 | e2 <;> refine ⟨by lia, by lia, by lia, by lia, ?_⟩
  all_goals first
    | exact Or.inl (by lia)
    | exact Or.inr (Or.inl (by lia))
    | exact Or.inr (Or.inr (Or.inl (by lia)))
    | exact Or.inr (Or.inr (Or.inr (by lia)))
theorem sayN_rw : ∀ (d : Nat) (b : Int32) (s : SS), (∀ k, k ≠ 53 → (SS.sayN d b s).g k = s.g k) ∧ (SS.sayN d b s).g 53 = s.g 53 + Int32.ofNat d ∧ (SS.sayN d b s).sts = s.sts ∧ (SS.sayN d b s).pages = s.pages ∧ (SS.sayN d b s).came = s.came ∧ (SS.sayN d b s).a 24 = s.a 24 ∧ (SS.sayN d b s).a 35 = s.a 35
  | 0, b, s => ⟨fun _ _ => rfl, by show s.g 53 = s.g 53 + Int32.ofNat 0; exact (Int32.add_zero _).symm, rfl, rfl, rfl, rfl, rfl⟩
  | d + 1, b, s => by
    obtain ⟨t1, t2, t3, t4, t5, t6, t7⟩ := sayN_rw d b (SS.say b s)
    refine ⟨fun k hk => (t1 k hk).trans (by rw [say_rw.1, if_neg hk]), ?_, t3, t4, t5, t6, t7⟩
    show (SS.sayN d b (SS.say b s)).g 53 = _
    rw [t2, say_rw.1, if_pos rfl, Int32.add_assoc, Int32.add_comm 1, show Int32.ofNat d + 1 = Int32.ofNat (d + 1) from zi_succ d]
theorem Inv.sayN : ∀ (d : Nat) (b : Int32) {s : SS}, Inv s → Inv (SS.sayN d b s)
  | 0, b, s, h => h
  | d + 1, b, s, h => Inv.sayN d b (h.say b)
theorem zi_pos {x y : Int32} (h : 0 ≤ x) : x.toNatClampNeg = 0 ↔ x = 0 := by
  obtain ⟨n, hn, rfl⟩ := zi_of x h
  rw [zi_nat hn]
  constructor
  · rintro rfl; rfl
  · intro w; exact (zi_eq (b := 0) hn (by decide)).mp w
theorem pump1_ok {s : SS} (hI : Inv s) {st : St} (hs : st ∈ s.sts) (hc : can st) (h50 : 0 < s.g 50) :
    Inv (SS.pump1 st s) ∧ leftN (SS.pump1 st s) < leftN s ∧ (∃ k : Nat, k ≤ 400 ∧ (SS.pump1 st s).g 53 = s.g 53 + Int32.ofNat k ∧ 4 * k + potN (SS.pump1 st s) ≤ potN s) ∧ (SS.pump1 st s).g 22 = s.g 22 ∧ (SS.pump1 st s).g 23 = s.g 23 ∧ (SS.pump1 st s).a 24 = s.a 24 ∧ (SS.pump1 st s).g 48 = s.g 48 := by
  obtain ⟨n1, n2, n3, n4, n5⟩ := pumpN_ok hI hs hc h50
  have hl := hI.sts.left st hs
  have hnum := hI.sts.num st hs
  have e : SS.pump1 st s = (let s2 := SS.sayN (pumpN s st).toNatClampNeg st.b (SS.head (pumpN s st) 0 (if st.left - pumpN s st = 0 then 1 else 0) st.num (((SS.modSt st.num (fun q => (q.set 16 (q.left - pumpN s st)).set 13 (q.win - pumpN s st)) s).p 50 (s.g 50 - pumpN s st)).p 49 st.num)); if st.left - pumpN s st = 0 then SS.over st.num s2 else s2) := rfl
  generalize pumpN s st = n at n1 n2 n3 n4 n5 e
  rw [e]
  obtain ⟨m, hm, em⟩ := zi_nn (m := 60) (x := n) (by lia) (by decide) (by lia)
  obtain ⟨l, hl60, el⟩ := zi_nn (m := 60) (x := st.left) hl.1 (by decide) hl.2
  have hmod : InvS (SS.modSt st.num (fun q => (q.set 16 (q.left - n)).set 13 (q.win - n)) s).sts := hI.sts.mod fun q hq e => by
    have : q = st := hI.sts.uniq hq hs e
    subst this
    exact ⟨by simp [St.rw], by simp [St.rw]; lia, by simpa [St.rw] using hI.sts.closed q hq, by simpa [St.rw] using hI.sts.meth q hq⟩
  have h1 : Inv (SS.modSt st.num (fun q => (q.set 16 (q.left - n)).set 13 (q.win - n)) s) := (ok_ws hI hmod).inv
  have h2 := ((h1.free 50 (s.g 50 - n)).set 49 st.num ⟨by lia, hnum.2⟩).head n 0 (if st.left - n = 0 then 1 else 0) st.num
  have h3 := Inv.sayN n.toNatClampNeg st.b h2
  obtain ⟨t1, t2, t3, t4, t5, t6, t7⟩ := sayN_rw n.toNatClampNeg st.b (SS.head n 0 (if st.left - n = 0 then 1 else 0) st.num (((SS.modSt st.num (fun q => (q.set 16 (q.left - n)).set 13 (q.win - n)) s).p 50 (s.g 50 - n)).p 49 st.num))
  generalize SS.sayN n.toNatClampNeg st.b (SS.head n 0 (if st.left - n = 0 then 1 else 0) st.num (((SS.modSt st.num (fun q => (q.set 16 (q.left - n)).set 13 (q.win - n)) s).p 50 (s.g 50 - n)).p 49 st.num)) = s2 at h3 t1 t2 t3 t4 t5 t6 t7
  have q50 : s2.g 50 = s.g 50 - n := (t1 50 (by decide)).trans rfl
  have q53 : s2.g 53 = s.g 53 + Int32.ofNat (4 + m) := by
    rw [t2, head_rw.1, if_pos rfl, em, zi_nat (by omega), Int32.add_assoc, zi_addL m 4 4 rfl]; rfl
  have qs : s2.sts = s.sts.map (fun q => if q.num = st.num then (q.set 16 (q.left - n)).set 13 (q.win - n) else q) := t3
  -- the sums
  have en : (st.left - n).toNatClampNeg = l - m := by
    rw [em] at n2; rw [el] at n2 ⊢
    rw [zi_le (by omega) (by omega)] at n2
    rw [em, zi_sub n2, zi_nat (by omega)]
  have hml : m ≤ l := by rw [em, el, zi_le (by omega) (by omega)] at n2; exact n2
  have hm1 : 1 ≤ m := by rw [em, show (1 : Int32) = Int32.ofNat 1 from rfl, zi_le (by omega) (by omega)] at n1; exact n1
  have s1 := sumW_mod (w := leftW) (f := fun q => (q.set 16 (q.left - n)).set 13 (q.win - n)) hI.sts.ne hs
  have s4 := sumW_mod (w := potW) (f := fun q => (q.set 16 (q.left - n)).set 13 (q.win - n)) hI.sts.ne hs
  rw [← qs] at s1 s4
  have w1 : leftW st = l := by unfold leftW; rw [el, zi_nat (by omega)]
  have w2 : leftW ((st.set 16 (st.left - n)).set 13 (st.win - n)) = l - m := by unfold leftW; simp only [St.rw]; exact en
  have w3 : potW st = 5 * l + 16 := by
    unfold potW
    rw [if_pos hc, el, zi_nat (by omega)]
  have w4 : potW ((st.set 16 (st.left - n)).set 13 (st.win - n)) = 5 * (l - m) + if (st.left - n ≠ 0 ∧ 0 < st.win - n) then 16 else 0 := by
    have a1 : ((st.set 16 (st.left - n)).set 13 (st.win - n)).left = st.left - n := by simp [St.rw]
    have a2 : ((st.set 16 (st.left - n)).set 13 (st.win - n)).win = st.win - n := by simp [St.rw]
    have hcan : can ((st.set 16 (st.left - n)).set 13 (st.win - n)) ↔ (st.left - n ≠ 0 ∧ 0 < st.win - n) := by unfold can; rw [a1, a2]
    unfold potW
    by_cases c : (st.left - n ≠ 0 ∧ 0 < st.win - n)
    · rw [if_pos (hcan.mpr c), if_pos c, a1, en]
    · rw [if_neg (fun w => c (hcan.mp w)), if_neg c, a1, en]
  have hlt : leftN s2 < leftN s := by
    unfold leftN
    omega
  have hpot : 4 * (4 + m) + potN s2 ≤ potN s := by
    unfold potN
    rw [if_pos h50, q50]
    rw [w3, w4] at s4
    rcases n5 with z | z | z | z
    · rw [if_neg (show ¬ (st.left - n ≠ 0 ∧ 0 < st.win - n) from fun q => q.1 (by lia))] at s4
      split <;> omega
    · rw [if_neg (show ¬ (st.left - n ≠ 0 ∧ 0 < st.win - n) from fun q => by have := q.2; lia)] at s4
      split <;> omega
    · rw [if_neg (by lia)]
      split at s4 <;> omega
    · have : 16 ≤ m := by rw [em, show (16 : Int32) = Int32.ofNat 16 from rfl, zi_le (by omega) (by omega)] at z; exact z
      split at s4 <;> split <;> omega
  have fin : ∀ s3 : SS, Inv s3 → leftN s3 ≤ leftN s2 → potN s3 ≤ potN s2 → s3.g = s2.g → s3.a = s2.a → Inv s3 ∧ leftN s3 < leftN s ∧ (∃ k : Nat, k ≤ 400 ∧ s3.g 53 = s.g 53 + Int32.ofNat k ∧ 4 * k + potN s3 ≤ potN s) ∧ s3.g 22 = s.g 22 ∧ s3.g 23 = s.g 23 ∧ s3.a 24 = s.a 24 ∧ s3.g 48 = s.g 48 := by
    intro s3 hi3 hl3 hp3 hg ha
    refine ⟨hi3, by omega, ⟨4 + m, by omega, by rw [hg]; exact q53, by omega⟩, by rw [hg]; exact t1 22 (by decide), by rw [hg]; exact t1 23 (by decide), by rw [ha]; exact t6, by rw [hg]; exact t1 48 (by decide)⟩
  by_cases z : st.left - n = 0
  · simp only [if_pos z]
    refine fin _ (h3.over _) (sumW_filter _ _ _) ?_ rfl rfl
    unfold potN
    have := sumW_filter potW (fun q => q.num != st.num) s2.sts
    have e1 : (SS.over st.num s2).sts = s2.sts.filter (fun q => q.num != st.num) := rfl
    have e2 : (SS.over st.num s2).g 50 = s2.g 50 := rfl
    rw [e1, e2]; omega
  · simp only [if_neg z]
    exact fin _ h3 (Nat.le_refl _) (Nat.le_refl _) rfl rfl
theorem leftN_le {s : SS} (hI : Inv s) : leftN s ≤ 240 := by
  have h1 : ∀ q ∈ s.sts, leftW q ≤ 60 := fun q hq => by
    obtain ⟨l, h1, e⟩ := zi_nn (m := 60) (hI.sts.left q hq).1 (by decide) (hI.sts.left q hq).2
    unfold leftW; rw [e, zi_nat (by omega)]; exact h1
  have h2 := sumW_le h1
  have h3 := hI.sts.len
  unfold leftN
  have : 60 * s.sts.length ≤ 60 * 4 := Nat.mul_le_mul_left _ h3
  omega
theorem potN_le {s : SS} (hI : Inv s) : potN s ≤ 1280 := by
  have h1 : ∀ q ∈ s.sts, potW q ≤ 316 := fun q hq => by
    obtain ⟨l, h1, e⟩ := zi_nn (m := 60) (hI.sts.left q hq).1 (by decide) (hI.sts.left q hq).2
    unfold potW
    split <;> rw [e, zi_nat (by omega)] <;> omega
  have h2 := sumW_le h1
  have h3 := hI.sts.len
  unfold potN
  have : 316 * s.sts.length ≤ 316 * 4 := Nat.mul_le_mul_left _ h3
  split <;> omega
theorem pump_ok : ∀ (e : Nat) {s : SS}, Inv s → Inv (SS.pump e s) ∧ (∃ k : Nat, 4 * k ≤ potN s ∧ (SS.pump e s).g 53 = s.g 53 + Int32.ofNat k) ∧ (SS.pump e s).g 22 = s.g 22 ∧ (SS.pump e s).g 23 = s.g 23 ∧ (SS.pump e s).a 24 = s.a 24 ∧ (SS.pump e s).g 48 = s.g 48
  | 0, s, h => ⟨h, ⟨0, Nat.zero_le _, (Int32.add_zero _).symm⟩, rfl, rfl, rfl, rfl⟩
  | e + 1, s, h => by
    have ht := turn_ok s
    have ee : SS.pump (e + 1) s = match s.turn with
      | none => s
      | some st => if 0 < s.g 50 then SS.pump e (SS.pump1 st s) else s := rfl
    have same : SS.pump (e + 1) s = s → Inv (SS.pump (e + 1) s) ∧ (∃ k : Nat, 4 * k ≤ potN s ∧ (SS.pump (e + 1) s).g 53 = s.g 53 + Int32.ofNat k) ∧ (SS.pump (e + 1) s).g 22 = s.g 22 ∧ (SS.pump (e + 1) s).g 23 = s.g 23 ∧ (SS.pump (e + 1) s).a 24 = s.a 24 ∧ (SS.pump (e + 1) s).g 48 = s.g 48 := fun q => by
      rw [q]
      exact ⟨h, ⟨0, Nat.zero_le _, (Int32.add_zero _).symm⟩, rfl, rfl, rfl, rfl⟩
    cases hq : s.turn with
    | none => exact same (by rw [ee, hq])
    | some st =>
      rw [hq] at ht
      by_cases c : 0 < s.g 50
      · have e2 : SS.pump (e + 1) s = SS.pump e (SS.pump1 st s) := by rw [ee, hq]; exact if_pos c
        rw [e2]
        obtain ⟨p1, p2, ⟨k, p3, p4, p5⟩, p6, p7, p8, p9⟩ := pump1_ok h ht.1 ht.2.1 c
        obtain ⟨r1, ⟨k', r2, r3⟩, r4, r5, r6, r7⟩ := pump_ok e p1
        exact ⟨r1, ⟨k + k', by omega, by rw [r3, p4, Int32.add_assoc, zi_add]⟩, r4.trans p6, r5.trans p7, r6.trans p8, r7.trans p9⟩
      · exact same (by rw [ee, hq]; exact if_neg c)
theorem ok_pump {s : SS} (h : Inv s) (e : Nat) : Ok 320 s (SS.pump e s) := by
  obtain ⟨r1, ⟨k, r2, r3⟩, r4, r5, r6, r7⟩ := pump_ok e h
  have := potN_le h
  exact ⟨r1, ⟨k, by omega, r3⟩, r4, r5, r6⟩
theorem ok_whole {s : SS} (h : Inv s) (hl : s.g 28 ≤ 200) : Ok 341 s s.whole := by
  have h1 := ok_look h hl
  have h2 := h1.tr (ok_after h1.inv s.look.1)
  have e : s.whole = if (SS.after s.look.1 s.look.2).g 48 = 0 then SS.pump 300 (SS.after s.look.1 s.look.2) else SS.after s.look.1 s.look.2 := rfl
  rw [e]
  split
  · have h3 := h2.tr (ok_pump h2.inv 300)
    exact Ok.wk (c := 341) h3 (by decide)
  · exact Ok.wk (c := 21) h2 (by decide)
