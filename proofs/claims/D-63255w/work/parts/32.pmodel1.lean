set_option maxRecDepth 100000
/-! PURE PART 6: lists side by side; the model's world and SS -/
def All2 {α β : Type} (R : α → β → Prop) : List α → List β → Prop
  | [], [] => True
  | a :: as, b :: bs => R a b ∧ All2 R as bs
  | _, _ => False
theorem All2.len {α β : Type} {R : α → β → Prop} : ∀ {as : List α} {bs : List β}, All2 R as bs → as.length = bs.length
  | [], [], _ => rfl
  | a :: as, b :: bs, h => by simp [All2.len h.2]
  | [], _ :: _, h => h.elim
  | _ :: _, [], h => h.elim
theorem All2.get {α β : Type} {R : α → β → Prop} : ∀ {as : List α} {bs : List β}, All2 R as bs → ∀ {i : Nat} {a : α}, as[i]? = some a → ∃ b, bs[i]? = some b ∧ R a b
  | [], [], _, i, a, h => by simp at h
  | a :: as, b :: bs, h, 0, x, hx => by simp at hx; subst hx; exact ⟨b, rfl, h.1⟩
  | a :: as, b :: bs, h, i + 1, x, hx => by simpa using All2.get h.2 (by simpa using hx)
  | [], _ :: _, h, _, _, _ => h.elim
  | _ :: _, [], h, _, _, _ => h.elim
theorem All2.get' {α β : Type} {R : α → β → Prop} : ∀ {as : List α} {bs : List β}, All2 R as bs → ∀ {i : Nat} {b : β}, bs[i]? = some b → ∃ a, as[i]? = some a ∧ R a b
  | [], [], _, i, a, h => by simp at h
  | a :: as, b :: bs, h, 0, x, hx => by simp at hx; subst hx; exact ⟨a, rfl, h.1⟩
  | a :: as, b :: bs, h, i + 1, x, hx => by simpa using All2.get' h.2 (by simpa using hx)
  | [], _ :: _, h, _, _, _ => h.elim
  | _ :: _, [], h, _, _, _ => h.elim
theorem All2.imp {α β : Type} {R R' : α → β → Prop} : ∀ {as : List α} {bs : List β}, All2 R as bs → (∀ a b, a ∈ as → b ∈ bs → R a b → R' a b) → All2 R' as bs
  | [], [], _, _ => trivial
  | a :: as, b :: bs, h, hi => ⟨hi a b (by simp) (by simp) h.1, All2.imp h.2 fun a b ha hb => hi a b (by simp [ha]) (by simp [hb])⟩
  | [], _ :: _, h, _ => h.elim
  | _ :: _, [], h, _ => h.elim
theorem All2.append {α β : Type} {R : α → β → Prop} : ∀ {as : List α} {bs : List β} {cs : List α} {ds : List β}, All2 R as bs → All2 R cs ds → All2 R (as ++ cs) (bs ++ ds)
  | [], [], _, _, _, h => h
  | a :: as, b :: bs, _, _, h, h' => ⟨h.1, All2.append h.2 h'⟩
  | [], _ :: _, _, _, h, _ => h.elim
  | _ :: _, [], _, _, h, _ => h.elim
theorem All2.filter {α β : Type} {R : α → β → Prop} {p : α → Bool} {q : β → Bool} : ∀ {as : List α} {bs : List β}, All2 R as bs → (∀ a b, a ∈ as → b ∈ bs → R a b → p a = q b) → All2 R (as.filter p) (bs.filter q)
  | [], [], _, _ => trivial
  | a :: as, b :: bs, h, hi => by
    have e := hi a b (by simp) (by simp) h.1
    have ih := All2.filter (p := p) (q := q) h.2 fun a b ha hb => hi a b (by simp [ha]) (by simp [hb])
    rw [List.filter_cons, List.filter_cons, e]
    by_cases hq : q b = true
    · rw [if_pos hq, if_pos hq]; exact ⟨h.1, ih⟩
    · rw [if_neg hq, if_neg hq]; exact ih
  | [], _ :: _, h, _ => h.elim
  | _ :: _, [], h, _ => h.elim
theorem All2.mapR {α β γ : Type} {R : α → β → Prop} {R' : α → γ → Prop} {f : β → γ} : ∀ {as : List α} {bs : List β}, All2 R as bs → (∀ a b, a ∈ as → b ∈ bs → R a b → R' a (f b)) → All2 R' as (bs.map f)
  | [], [], _, _ => trivial
  | a :: as, b :: bs, h, hi => ⟨hi a b (by simp) (by simp) h.1, All2.mapR h.2 fun a b ha hb => hi a b (by simp [ha]) (by simp [hb])⟩
  | [], _ :: _, h, _ => h.elim
  | _ :: _, [], h, _ => h.elim
theorem All2.eraseIdx {α β : Type} {R : α → β → Prop} : ∀ {as : List α} {bs : List β} {i : Nat}, All2 R as bs → All2 R (as.eraseIdx i) (bs.eraseIdx i)
  | [], [], _, _ => trivial
  | a :: as, b :: bs, 0, h => h.2
  | a :: as, b :: bs, i + 1, h => ⟨h.1, All2.eraseIdx h.2⟩
  | [], _ :: _, _, h => h.elim
  | _ :: _, [], _, h => h.elim
theorem All2.mem {α β : Type} {R : α → β → Prop} {as : List α} {bs : List β} (h : All2 R as bs) {a : α} (ha : a ∈ as) : ∃ b, b ∈ bs ∧ R a b := by
  obtain ⟨i, hi, e⟩ := List.getElem_of_mem ha
  obtain ⟨b, hb, r⟩ := h.get (i := i) (a := a) (by rw [List.getElem?_eq_getElem hi, e])
  exact ⟨b, List.mem_of_getElem? hb, r⟩
theorem All2.mem' {α β : Type} {R : α → β → Prop} {as : List α} {bs : List β} (h : All2 R as bs) {b : β} (hb : b ∈ bs) : ∃ a, a ∈ as ∧ R a b := by
  obtain ⟨i, hi, e⟩ := List.getElem_of_mem hb
  obtain ⟨a, ha, r⟩ := h.get' (i := i) (b := b) (by rw [List.getElem?_eq_getElem hi, e])
  exact ⟨a, List.mem_of_getElem? ha, r⟩
theorem zi_in' {x : Int32} {n : Nat} (h0 : 0 ≤ x) (h1 : x < Int32.ofNat n) (hn : n < 2147483648) : vp_in x n := by
  obtain ⟨m, hm, rfl⟩ := zi_of x h0
  exact zi_in ((zi_lt hm hn).mp h1) hn
/-! the model's world -/
def shr : List Nat := [7, 22, 23, 25, 26, 27, 28, 29, 30, 31, 32, 33, 34, 47, 48, 49, 50, 51, 52, 53]
def rowE (N : Nat → Nat → Int32) (i : Nat) (e : En) : Prop := e.1.length ≤ 20 ∧ e.2.length ≤ 20 ∧ N 8 i = Int32.ofNat e.1.length ∧ N 10 i = Int32.ofNat e.2.length ∧ (∀ k, k < e.1.length → N 9 (20 * i + k) = e.1.getD k 0) ∧ ∀ k, k < e.2.length → N 11 (20 * i + k) = e.2.getD k 0
def RMt (G : Nat → Int32) (N : Nat → Nat → Int32) (came : List En) : Prop := G 6 = Int32.ofNat came.length ∧ ∀ i e, (fixedE ++ came)[i]? = some e → rowE N i e
def rowP (N : Nat → Nat → Int32) (i : Nat) (q : Pg) : Prop := q.1.length ≤ 8 ∧ N 2 i = Int32.ofNat q.1.length ∧ (∀ k, k < q.1.length → N 3 (8 * i + k) = q.1.getD k 0) ∧ N 4 i = q.2.1 ∧ N 5 i = q.2.2
def RMp (G : Nat → Int32) (N : Nat → Nat → Int32) (pages : List Pg) : Prop := G 1 = Int32.ofNat pages.length ∧ ∀ i q, pages[i]? = some q → rowP N i q
def slot (N : Nat → Nat → Int32) (i : Nat) (st : St) : Prop := (∀ k ∈ [12, 13, 14, 15, 16, 18, 19], N k i = st.1 k) ∧ (st.left ≠ 0 → N 17 i = st.b) ∧ N 20 i = Int32.ofNat st.2.length ∧ (∀ k, k < st.2.length → N 21 (20 * i + k) = st.2.getD k 0) ∧ st.2.length ≤ 20
theorem slot.f {N : Nat → Nat → Int32} {i : Nat} {st : St} (h : slot N i st) (k : Nat) (hk : k ∈ [12, 13, 14, 15, 16, 18, 19] := by decide) : N k i = st.1 k := h.1 k hk
theorem slot.num {N : Nat → Nat → Int32} {i : Nat} {st : St} (h : slot N i st) : N 12 i = st.num := h.f 12
def RMs (N : Nat → Nat → Int32) (σ : List Nat) (sts : List St) : Prop := All2 (slot N) σ sts ∧ σ.Nodup ∧ (∀ i ∈ σ, i < 4) ∧ ∀ i, i < 4 → i ∉ σ → N 12 i = 0
theorem RMs.all {N : Nat → Nat → Int32} {σ : List Nat} {sts : List St} (h : RMs N σ sts) : All2 (slot N) σ sts := h.1
theorem RMs.nd {N : Nat → Nat → Int32} {σ : List Nat} {sts : List St} (h : RMs N σ sts) : σ.Nodup := h.2.1
theorem RMs.lt {N : Nat → Nat → Int32} {σ : List Nat} {sts : List St} (h : RMs N σ sts) : ∀ i ∈ σ, i < 4 := h.2.2.1
theorem RMs.out {N : Nat → Nat → Int32} {σ : List Nat} {sts : List St} (h : RMs N σ sts) : ∀ i, i < 4 → i ∉ σ → N 12 i = 0 := h.2.2.2
def RM (G : Nat → Int32) (N : Nat → Nat → Int32) (s : SS) : Prop := (∀ k ∈ shr, G k = s.g k) ∧ (∀ k ∈ [24, 35, 54], N k = s.a k) ∧ RMp G N s.pages ∧ RMt G N s.came ∧ ∃ σ, RMs N σ s.sts
theorem RM.f {G : Nat → Int32} {N : Nat → Nat → Int32} {s : SS} (h : RM G N s) (k : Nat) (hk : k ∈ shr := by decide) : G k = s.g k := h.1 k hk
theorem RM.a {G : Nat → Int32} {N : Nat → Nat → Int32} {s : SS} (h : RM G N s) (k : Nat) (hk : k ∈ [24, 35, 54] := by decide) : N k = s.a k := h.2.1 k hk
theorem RM.pg {G : Nat → Int32} {N : Nat → Nat → Int32} {s : SS} (h : RM G N s) : RMp G N s.pages := h.2.2.1
theorem RM.tb {G : Nat → Int32} {N : Nat → Nat → Int32} {s : SS} (h : RM G N s) : RMt G N s.came := h.2.2.2.1
theorem RM.st {G : Nat → Int32} {N : Nat → Nat → Int32} {s : SS} (h : RM G N s) : ∃ σ, RMs N σ s.sts := h.2.2.2.2
theorem slot.cong {N N' : Nat → Nat → Int32} {i : Nat} {st : St} (h : slot N i st) (e : ∀ k ∈ [12, 13, 14, 15, 16, 17, 18, 19, 20], N' k i = N k i) (e21 : N' 21 = N 21) : slot N' i st :=
  ⟨fun k hk => by rw [e k (by revert hk; simp; omega)]; exact h.1 k hk, fun hl => by rw [e 17 (by decide)]; exact h.2.1 hl, by rw [e 20 (by decide)]; exact h.2.2.1, fun k hk => by rw [e21]; exact h.2.2.2.1 k hk, h.2.2.2.2⟩
theorem rowE.cong {N N' : Nat → Nat → Int32} {i : Nat} {e : En} (h : rowE N i e) (q : ∀ k ∈ [8, 9, 10, 11], N' k = N k) : rowE N' i e := by
  unfold rowE at h ⊢
  rw [q 8 (by decide), q 9 (by decide), q 10 (by decide), q 11 (by decide)]; exact h
theorem rowP.cong {N N' : Nat → Nat → Int32} {i : Nat} {e : Pg} (h : rowP N i e) (q : ∀ k ∈ [2, 3, 4, 5], N' k = N k) : rowP N' i e := by
  unfold rowP at h ⊢
  rw [q 2 (by decide), q 3 (by decide), q 4 (by decide), q 5 (by decide)]; exact h
theorem RMs.cong {N N' : Nat → Nat → Int32} {σ : List Nat} {l : List St} (h : RMs N σ l) (e : ∀ k ∈ [12, 13, 14, 15, 16, 17, 18, 19, 20, 21], N' k = N k) : RMs N' σ l :=
  ⟨h.1.imp fun a b _ _ r => r.cong (fun k hk => by rw [e k (by revert hk; simp; omega)]) (e 21 (by decide)), h.2.1, h.2.2.1, by rw [e 12 (by decide)]; exact h.2.2.2⟩
theorem RM.set {G : Nat → Int32} {N : Nat → Nat → Int32} {s : SS} (h : RM G N s) (k : Nat) (x : Int32) (hk : k ∈ shr := by decide) : RM (upd G k x) N (s.p k x) := by
  refine ⟨fun j hj => ?_, h.2.1, ⟨?_, h.pg.2⟩, ⟨?_, h.tb.2⟩, h.st⟩
  · show upd G k x j = upd s.g k x j
    unfold upd
    by_cases e : j = k
    · rw [if_pos e, if_pos e]
    · rw [if_neg e, if_neg e]; exact h.1 j hj
  · have : 1 ≠ k := fun e => by subst e; revert hk; decide
    simp only [upd, if_neg this]; exact h.pg.1
  · have : 6 ≠ k := fun e => by subst e; revert hk; decide
    simp only [upd, if_neg this]; exact h.tb.1
theorem RM.priv {G : Nat → Int32} {N : Nat → Nat → Int32} {s : SS} (h : RM G N s) (k : Nat) (x : Int32) (hk : k ∉ 1 :: 6 :: shr := by decide) : RM (upd G k x) N s := by
  have h1 : 1 ≠ k := fun e => hk (by subst e; simp)
  have h6 : 6 ≠ k := fun e => hk (by subst e; simp)
  refine ⟨fun j hj => ?_, h.2.1, ⟨?_, h.pg.2⟩, ⟨?_, h.tb.2⟩, h.st⟩
  · have e : j ≠ k := fun e => hk (by subst e; simp [hj])
    simp only [upd, if_neg e]; exact h.1 j hj
  · simp only [upd, if_neg h1]; exact h.pg.1
  · simp only [upd, if_neg h6]; exact h.tb.1
/-- the model's arrays of the streams changed -/
theorem RM.sts {G : Nat → Int32} {N N' : Nat → Nat → Int32} {s : SS} {σ : List Nat} {l : List St} (h : RM G N s) (hs : RMs N' σ l) (hN : ∀ k, k ∉ [12, 13, 14, 15, 16, 17, 18, 19, 20, 21] → N' k = N k) : RM G N' (s.ws l) := by
  refine ⟨h.1, fun k hk => ?_, ⟨h.pg.1, fun i q hq => (h.pg.2 i q hq).cong fun k hk => hN k ?_⟩, ⟨h.tb.1, fun i e he => (h.tb.2 i e he).cong fun k hk => hN k ?_⟩, ⟨σ, hs⟩⟩
  · rw [hN k (by revert hk; simp; omega)]; exact h.2.1 k hk
  · revert hk; simp; omega
  · revert hk; simp; omega
/-- an array that nobody else reads changed -/
theorem RM.arr {G : Nat → Int32} {N : Nat → Nat → Int32} {s : SS} (h : RM G N s) (k : Nat) (f : Nat → Int32) (hk : k ∉ [2, 3, 4, 5, 8, 9, 10, 11, 12, 13, 14, 15, 16, 17, 18, 19, 20, 21, 24, 35, 54] := by decide) : RM G (va_up N k f) s := by
  have e : ∀ j, j ∈ [2, 3, 4, 5, 8, 9, 10, 11, 12, 13, 14, 15, 16, 17, 18, 19, 20, 21, 24, 35, 54] → va_up N k f j = N j := fun j hj => by
    have : j ≠ k := fun q => hk (by subst q; exact hj)
    simp [va_up, this]
  refine ⟨h.1, fun k hk => ?_, ⟨h.pg.1, fun i q hq => (h.pg.2 i q hq).cong fun k hk => e k ?_⟩, ⟨h.tb.1, fun i e' he => (h.tb.2 i e' he).cong fun k hk => e k ?_⟩, ?_⟩
  · rw [e k (by revert hk; simp; omega)]; exact h.2.1 k hk
  · revert hk; simp; omega
  · revert hk; simp; omega
  · obtain ⟨σ, hσ⟩ := h.st
    exact ⟨σ, hσ.cong fun k hk => e k (by revert hk; simp; omega)⟩
/-- the bytes of the output, the frame, the block -/
theorem RM.arS {G : Nat → Int32} {N : Nat → Nat → Int32} {s : SS} (h : RM G N s) (k : Nat) (f : Nat → Int32) (hk : k ∈ [24, 35, 54] := by decide) : RM G (va_up N k f) (s.q k f) := by
  have e : ∀ j, j ∈ [2, 3, 4, 5, 8, 9, 10, 11, 12, 13, 14, 15, 16, 17, 18, 19, 20, 21] → va_up N k f j = N j := fun j hj => by
    have : j ≠ k := fun q => by subst q; revert hk hj; simp; omega
    simp [va_up, this]
  refine ⟨h.1, fun j hj => ?_, ⟨h.pg.1, fun i q hq => (h.pg.2 i q hq).cong fun k hk => e k ?_⟩, ⟨h.tb.1, fun i e' he => (h.tb.2 i e' he).cong fun k hk => e k ?_⟩, ?_⟩
  · show va_up N k f j = va_up s.a k f j
    unfold va_up
    by_cases q : j = k
    · rw [if_pos q, if_pos q]
    · rw [if_neg q, if_neg q]; exact h.2.1 j hj
  · revert hk; simp; omega
  · revert hk; simp; omega
  · obtain ⟨σ, hσ⟩ := h.st
    exact ⟨σ, hσ.cong fun k hk => e k (by revert hk; simp; omega)⟩
/-! saying -/
/-- arrays but the output stay -/
def k54 (N N' : Nat → Nat → Int32) : Prop := ∀ k, k ≠ 54 → N' k = N k
theorem k54.tr {N N' N'' : Nat → Nat → Int32} (h : k54 N N') (h' : k54 N' N'') : k54 N N'' := fun k hk => (h' k hk).trans (h k hk)
theorem k54.slot {N N' : Nat → Nat → Int32} (h : k54 N N') {i : Nat} {st : St} (hs : slot N i st) : slot N' i st := hs.cong (fun k hk => by rw [h k (by revert hk; simp; omega)]) (h 21 (by decide))
theorem m_say {G : Nat → Int32} {N : Nat → Nat → Int32} {s : SS} {b : Int32} {post : (Nat → Int32) → (Nat → Nat → Int32) → Prop} (h : RM G N s) (h0 : 0 ≤ s.g 53) (h1 : s.g 53 < 1200) (hp : ∀ G' N', RM G' N' (s.say b) → k54 N N' → post G' N') : wX6_say post b G N := by
  refine ⟨by rw [h.f 53]; exact zi_in' h0 h1 (by decide), hp _ _ ?_ fun k hk => by simp [va_up, hk]⟩
  rw [h.f 53, h.a 54]
  exact (h.arS 54 _).set 53 _
/-- what saying leaves as it was -/
theorem say_rw : (∀ (b : Int32) (s : SS) (k : Nat), (SS.say b s).g k = if k = 53 then s.g 53 + 1 else s.g k) ∧ (∀ (b : Int32) (s : SS), (SS.say b s).sts = s.sts) ∧ (∀ (b : Int32) (s : SS), (SS.say b s).pages = s.pages) ∧ (∀ (b : Int32) (s : SS), (SS.say b s).came = s.came) ∧ (∀ (b : Int32) (s : SS), (SS.say b s).a 24 = s.a 24) ∧ (∀ (b : Int32) (s : SS), (SS.say b s).a 35 = s.a 35) :=
  ⟨fun _ _ _ => rfl, fun _ _ => rfl, fun _ _ => rfl, fun _ _ => rfl, fun _ _ => rfl, fun _ _ => rfl⟩
theorem head_rw : (∀ (a b c d : Int32) (s : SS) (k : Nat), (SS.head a b c d s).g k = if k = 53 then s.g 53 + 4 else s.g k) ∧ (∀ (a b c d : Int32) (s : SS), (SS.head a b c d s).sts = s.sts) ∧ (∀ (a b c d : Int32) (s : SS), (SS.head a b c d s).pages = s.pages) ∧ (∀ (a b c d : Int32) (s : SS), (SS.head a b c d s).came = s.came) ∧ (∀ (a b c d : Int32) (s : SS), (SS.head a b c d s).a 24 = s.a 24) ∧ (∀ (a b c d : Int32) (s : SS), (SS.head a b c d s).a 35 = s.a 35) := by
  refine ⟨fun a b c d s k => ?_, fun _ _ _ _ _ => rfl, fun _ _ _ _ _ => rfl, fun _ _ _ _ _ => rfl, fun _ _ _ _ _ => rfl, fun _ _ _ _ _ => rfl⟩
  simp only [SS.head, say_rw]
  by_cases h : k = 53
  · simp only [h, if_true]; lia
  · simp only [h, if_false]
theorem m_head {G : Nat → Int32} {N : Nat → Nat → Int32} {s : SS} {a b c d : Int32} {post : (Nat → Int32) → (Nat → Nat → Int32) → Prop} (h : RM G N s) (h0 : 0 ≤ s.g 53) (h1 : s.g 53 ≤ 1196) (hp : ∀ G' N', RM G' N' (SS.head a b c d s) → k54 N N' → post G' N') : wX6_head post a b c d G N := by
  refine m_say h h0 (by lia) fun G1 N1 h k1 => m_say h ?_ ?_ fun G1 N1 h k2 => m_say h ?_ ?_ fun G1 N1 h k3 => m_say h ?_ ?_ fun G1 N1 h k4 => hp _ _ h (((k1.tr k2).tr k3).tr k4)
  all_goals simp only [say_rw, if_true]; lia
