set_option maxRecDepth 100000
/-! PURE PART 8: the model: pages looked up, answers, DATA -/
theorem zi_mul (a b : Nat) : Int32.ofNat a * Int32.ofNat b = Int32.ofNat (a * b) := (Int32.ofNat_mul a b).symm
theorem zi_mulL (a : Nat) (c : Int32) (n : Nat) (hc : c = Int32.ofNat n) : c * Int32.ofNat a = Int32.ofNat (n * a) := by rw [hc, zi_mul]
theorem zi_addL (a : Nat) (c : Int32) (n : Nat) (hc : c = Int32.ofNat n) : c + Int32.ofNat a = Int32.ofNat (n + a) := by rw [hc, zi_add]
theorem zi_succ (a : Nat) : Int32.ofNat a + 1 = Int32.ofNat (a + 1) := zi_add a 1
theorem list_eq_getD {a b : List Int32} (hl : a.length = b.length) (h : ∀ k, k < a.length → a.getD k 0 = b.getD k 0) : a = b := by
  refine List.ext_getElem hl fun k h1 h2 => ?_
  have := h k h1
  simpa [List.getD_eq_getElem?_getD, h1, h2] using this
theorem m_cmp {G : Nat → Int32} {N : Nat → Nat → Int32} {q path : List Int32} {i from' kr nr xr : Nat} {acc : Int32} {post : Int32 → Prop} {K6 : Int32 → Int32 → Prop} (hi : i < 8) (hq : ∀ k, k < q.length → N 3 (8 * i + k) = q.getD k 0) (hp : ∀ k, k < path.length → N kr (from' + k) = path.getD k 0) (hn : from' + path.length ≤ nr) (hnr : nr ≤ 1000) (h1 : q = path → K6 (Int32.ofNat i) (Int32.ofNat i + 1)) (h0 : q ≠ path → K6 acc (Int32.ofNat i + 1)) :
    ∀ (d k : Nat) (x6 : Int32), k + d = path.length → ((x6 = 0 ∧ q ≠ path) ∨ (x6 = 1 ∧ q.length = path.length ∧ q.length ≤ 8 ∧ ∀ j, j < k → q.getD j 0 = path.getD j 0)) → wX6_pageOf_b36 post K6 (Int32.ofNat from') (Int32.ofNat path.length) kr nr xr G N (d + 1) acc (Int32.ofNat i) x6 (Int32.ofNat k) := by
  have fin : ∀ x6 : Int32, ((x6 = 0 ∧ q ≠ path) ∨ (x6 = 1 ∧ q = path)) → wX6_pageOf_b82 post K6 (Int32.ofNat from') (Int32.ofNat path.length) kr nr xr G N acc (Int32.ofNat i) x6 := by
    intro x6 h
    rcases h with ⟨rfl, e⟩ | ⟨rfl, e⟩
    · exact ⟨fun _ => h0 e, fun z => absurd rfl z⟩
    · exact ⟨fun z => absurd z (by decide), fun _ => h1 e⟩
  intro d
  induction d with
  | zero =>
    intro k x6 hk hx
    have hk' : k = path.length := by omega
    refine ⟨fun _ => fin x6 (hx.imp id fun z => ⟨z.1, list_eq_getD z.2.1 fun j hj => z.2.2.2 j (by omega)⟩), fun z => absurd ((zi_le (by omega) (by omega)).mpr (by omega)) z⟩
  | succ d ih =>
    intro k x6 hk hx
    refine ⟨fun z => ?_, fun _ => ⟨fun z => fin x6 (Or.inl ⟨z, ?_⟩), fun z => ?_⟩⟩
    · rw [zi_le (by omega) (by omega)] at z; omega
    · rcases hx with h | h
      · exact h.2
      · rw [h.1] at z; exact absurd z (by decide)
    · rcases hx with h | ⟨-, h2, h3, h4⟩
      · exact absurd h.1 z
      · rw [zi_mulL i 8 8 rfl, zi_add, zi_add, zi_nat (by omega), zi_nat (by omega), hq k (by omega), hp k (by omega)]
        refine ⟨zi_in (by omega) (by decide), zi_in (by omega) (by omega), fun e => ?_, fun e => ?_⟩
        · unfold wX6_pageOf_b74
          rw [zi_succ]
          refine ih (k + 1) 1 (by omega) (Or.inr ⟨rfl, h2, h3, fun j hj => ?_⟩)
          by_cases hjk : j = k
          · rw [hjk]; exact e
          · exact h4 j (by omega)
        · unfold wX6_pageOf_b74
          rw [zi_succ]
          exact ih (k + 1) 0 (by omega) (Or.inl ⟨rfl, fun w => e (by rw [w])⟩)
theorem m_pageOf_b6 {G : Nat → Int32} {N : Nat → Nat → Int32} {path : List Int32} {pages : List Pg} {from' kr nr xr : Nat} {post : Int32 → Prop} (hG : RMp G N pages) (hl8 : pages.length ≤ 8) (hp : ∀ k, k < path.length → N kr (from' + k) = path.getD k 0) (hn : from' + path.length ≤ nr) (hnr : nr ≤ 1000) :
    ∀ (d i : Nat) (acc : Int32) (accP : Option Pg), i + d = pages.length → ((acc = -1 ∧ accP = none) ∨ ∃ j q, pages[j]? = some q ∧ acc = Int32.ofNat j ∧ accP = some q) →
    (∀ r, ((r = -1 ∧ (pages.drop i).foldl (fun acc q => if q.1 = path then some q else acc) accP = none) ∨ ∃ j q, pages[j]? = some q ∧ r = Int32.ofNat j ∧ (pages.drop i).foldl (fun acc q => if q.1 = path then some q else acc) accP = some q) → post r) →
    wX6_pageOf_b6 post (Int32.ofNat from') (Int32.ofNat path.length) kr nr xr G N (d + 1) acc (Int32.ofNat i) := by
  intro d
  induction d with
  | zero =>
    intro i acc accP hi ha hpost
    have hd : pages.drop i = [] := List.drop_eq_nil_of_le (by omega)
    rw [hd] at hpost
    refine ⟨fun _ => hpost acc ha, fun z => absurd ?_ z⟩
    rw [hG.1, zi_le (by omega) (by omega)]; omega
  | succ d ih =>
    intro i acc accP hi ha hpost
    have hil : i < pages.length := by omega
    have hd : pages.drop i = pages[i] :: pages.drop (i + 1) := List.drop_eq_getElem_cons hil
    have hpi : pages[i]? = some pages[i] := List.getElem?_eq_getElem hil
    obtain ⟨r0, r1, r2, r3, r4⟩ := hG.2 i _ hpi
    refine ⟨fun z => ?_, fun _ => ⟨zi_in (by omega) (by decide), fun z => ?_, fun z => ?_⟩⟩
    · rw [hG.1, zi_le (by omega) (by omega)] at z; omega
    all_goals rw [zi_nat (by omega), r1] at z
    · have hlen := (zi_eq (by omega) (by omega)).mp z
      refine ⟨path.length + 1, m_cmp (q := pages[i].1) (by omega) r2 hp hn hnr (fun e => ?_) (fun e => ?_) path.length 0 1 (by omega) (Or.inr ⟨rfl, hlen, r0, fun j hj => by omega⟩)⟩
      · rw [zi_succ]
        exact ih (i + 1) _ (some pages[i]) (by omega) (Or.inr ⟨i, _, hpi, rfl, rfl⟩) fun r hr => hpost r (by rw [hd, List.foldl_cons, if_pos e]; exact hr)
      · rw [zi_succ]
        exact ih (i + 1) _ accP (by omega) ha fun r hr => hpost r (by rw [hd, List.foldl_cons, if_neg e]; exact hr)
    · have e : pages[i].1 ≠ path := fun w => z (by rw [w])
      refine ⟨path.length + 1, m_cmp (q := pages[i].1) (by omega) r2 hp hn hnr (fun e' => absurd e' e) (fun e => ?_) path.length 0 0 (by omega) (Or.inl ⟨rfl, e⟩)⟩
      rw [zi_succ]
      exact ih (i + 1) _ accP (by omega) ha fun r hr => hpost r (by rw [hd, List.foldl_cons, if_neg e]; exact hr)
theorem m_pageOf {G : Nat → Int32} {N : Nat → Nat → Int32} {path : List Int32} {s : SS} {from' kr nr xr : Nat} {post : Int32 → Prop} (h : RM G N s) (hl8 : s.pages.length ≤ 8) (hp : ∀ k, k < path.length → N kr (from' + k) = path.getD k 0) (hn : from' + path.length ≤ nr) (hnr : nr ≤ 1000)
    (h0 : s.pageAt path = none → post (-1)) (h1 : ∀ j q, s.pageAt path = some q → s.pages[j]? = some q → post (Int32.ofNat j)) : wX6_pageOf post (Int32.ofNat from') (Int32.ofNat path.length) kr nr xr G N := by
  refine ⟨s.pages.length + 1, m_pageOf_b6 h.pg hl8 hp hn hnr s.pages.length 0 (-1) none (by omega) (Or.inl ⟨rfl, rfl⟩) fun r hr => ?_⟩
  rw [List.drop_zero] at hr
  rcases hr with ⟨rfl, e⟩ | ⟨j, q, e1, rfl, e2⟩
  · exact h0 e
  · exact h1 j q e2 e1
theorem zi_div256 : ∀ n : Nat, n < 256 → Int32.ofNat n / 256 = 0 ∧ Int32.ofNat n - Int32.ofNat n / 256 * 256 = Int32.ofNat n ∧ Int32.ofNat n >>> ((8 : Int32) &&& 31) = 0 := by decide +kernel
theorem zi_cred {x : Int32} (h0 : 0 ≤ x) (h1 : x ≤ 255) : x / 256 = 0 ∧ x - x / 256 * 256 = x ∧ x >>> ((8 : Int32) &&& 31) = 0 := by
  obtain ⟨n, hn, rfl⟩ := zi_of x h0
  rw [show (255 : Int32) = Int32.ofNat 255 from rfl, zi_le hn (by decide)] at h1
  exact zi_div256 n (by omega)
theorem m_credit {G : Nat → Int32} {N : Nat → Nat → Int32} {s : SS} {st x : Int32} {post : (Nat → Int32) → (Nat → Nat → Int32) → Prop} (h : RM G N s) (h0 : 0 ≤ s.g 53) (h1 : s.g 53 ≤ 1194) (x0 : 0 ≤ x) (x1 : x ≤ 255) (hp : ∀ G' N', RM G' N' (SS.credit st x s) → k54 N N' → post G' N') : wX6_credit post st x G N := by
  unfold wX6_credit
  rw [(zi_cred x0 x1).1, show x - 0 * 256 = x by lia]
  refine m_head h h0 (by lia) fun G1 N1 h k1 => m_say h ?_ ?_ fun G1 N1 h k2 => m_say h ?_ ?_ fun G1 N1 h k3 => hp _ _ h ((k1.tr k2).tr k3)
  all_goals simp only [say_rw, head_rw, if_true]; lia
theorem credit_rw : (∀ (st x : Int32) (s : SS) (k : Nat), (SS.credit st x s).g k = if k = 53 then s.g 53 + 6 else s.g k) ∧ (∀ (st x : Int32) (s : SS), (SS.credit st x s).sts = s.sts) ∧ (∀ (st x : Int32) (s : SS), (SS.credit st x s).pages = s.pages) ∧ (∀ (st x : Int32) (s : SS), (SS.credit st x s).came = s.came) ∧ (∀ (st x : Int32) (s : SS), (SS.credit st x s).a 24 = s.a 24) ∧ (∀ (st x : Int32) (s : SS), (SS.credit st x s).a 35 = s.a 35) := by
  refine ⟨fun st x s k => ?_, fun _ _ _ => rfl, fun _ _ _ => rfl, fun _ _ _ => rfl, fun _ _ _ => rfl, fun _ _ _ => rfl⟩
  simp only [SS.credit, say_rw, head_rw]
  by_cases h : k = 53
  · simp only [h, if_true]; lia
  · simp only [h, if_false]
/-- a stream changed where its number is n -/
theorem InvS.mod {l : List St} (h : InvS l) {n : Int32} {f : St → St} (hf : ∀ st ∈ l, st.num = n → (f st).num = st.num ∧ (0 ≤ (f st).left ∧ (f st).left ≤ 60) ∧ ((f st).closed = 0 ∨ (f st).closed = 1) ∧ ((f st).meth = 0 ∨ (f st).meth = 1 ∨ (f st).meth = 2)) : InvS (l.map (fun st => if st.num = n then f st else st)) := by
  have hn : ∀ st ∈ l, (if st.num = n then f st else st).num = st.num := fun st hs => by
    by_cases e : st.num = n
    · rw [if_pos e]; exact (hf st hs e).1
    · rw [if_neg e]
  refine ⟨by rw [List.length_map]; exact h.len, ?_, ?_, ?_, ?_, ?_⟩
  · rw [List.pairwise_map]
    refine List.Pairwise.imp_of_mem (fun ha hb q => ?_) h.ne
    rw [hn _ ha, hn _ hb]; exact q
  all_goals
    intro st' hs'
    obtain ⟨st, hs, rfl⟩ := List.mem_map.mp hs'
  · rw [hn st hs]; exact h.num st hs
  all_goals
    by_cases e : st.num = n
    · rw [if_pos e]; first | exact (hf st hs e).2.1 | exact (hf st hs e).2.2.1 | exact (hf st hs e).2.2.2
    · rw [if_neg e]; first | exact h.left st hs | exact h.closed st hs | exact h.meth st hs
theorem InvS.filter {l : List St} (h : InvS l) (q : St → Bool) : InvS (l.filter q) :=
  ⟨Nat.le_trans (List.length_filter_le _ _) h.len, h.ne.filter _, fun st hs => h.num st (List.mem_filter.mp hs).1, fun st hs => h.left st (List.mem_filter.mp hs).1, fun st hs => h.closed st (List.mem_filter.mp hs).1, fun st hs => h.meth st (List.mem_filter.mp hs).1⟩
def InvP (l : List Pg) : Prop := l.length ≤ 8 ∧ ∀ q ∈ l, (1 ≤ q.1.length ∧ q.1.length ≤ 8) ∧ (0 ≤ q.2.1 ∧ q.2.1 ≤ 60) ∧ 0 ≤ q.2.2 ∧ q.2.2 ≤ 255
theorem pageAt_mem {s : SS} {path : List Int32} {q : Pg} (h : s.pageAt path = some q) : q ∈ s.pages := by
  have key : ∀ (l : List Pg) (acc : Option Pg), l.foldl (fun acc q => if q.1 = path then some q else acc) acc = some q → acc = some q ∨ q ∈ l := by
    intro l
    induction l with
    | nil => intro acc h; exact Or.inl h
    | cons a l ih =>
      intro acc h
      rw [List.foldl_cons] at h
      rcases ih _ h with e | e
      · by_cases e1 : a.1 = path
        · rw [if_pos e1] at e; exact Or.inr (by simp [Option.some.inj e])
        · rw [if_neg e1] at e; exact Or.inl e
      · exact Or.inr (by simp [e])
  rcases key _ _ h with e | e
  · cases e
  · exact e
theorem ansSize_ok {s : SS} {st : St} (hp : InvP s.pages) : 0 ≤ ansSize st (ansPage st s) ∧ ansSize st (ansPage st s) ≤ 60 := by
  have z : (0 : Int32) ≤ 0 ∧ (0 : Int32) ≤ 60 := by decide
  unfold ansSize ansPage
  by_cases h : st.meth = 0
  · rw [if_pos h, if_neg (by rw [h]; decide)]
    cases hq : s.pageAt st.path with
    | none => exact z
    | some q => exact (hp.2 q (pageAt_mem hq)).2.1
  · rw [if_neg h]; exact z
/-- the answer's end: the stream's row written, then set free if there is nothing to send -/
theorem m_answer_end {G : Nat → Int32} {N : Nat → Nat → Int32} {s : SS} {st : St} {j : Nat} {x y : Int32} {post : (Nat → Int32) → (Nat → Nat → Int32) → Prop} (h : RM G N s) {σ : List Nat} (hσ : RMs N σ s.sts) (hi : InvS s.sts) (hs : st ∈ s.sts) (hj : j ∈ σ) (hsl : slot N j st) (hx : 0 ≤ x ∧ x ≤ 60)
    (hp : ∀ G' N', RM G' N' (if x = 0 then SS.over st.num (SS.modSt st.num (fun q => (q.set 16 x).set 17 y) s) else SS.modSt st.num (fun q => (q.set 16 x).set 17 y) s) → post G' N') :
    wX6_answer_b179 post (Int32.ofNat j) G (va_up N 16 (upd (N 16) j x)) x y := by
  have j4 := hσ.lt j hj
  have hm : RMs (va_up (va_up N 16 (upd (N 16) j x)) 17 (upd (N 17) j y)) σ (s.sts.map (fun q => if q.num = st.num then (q.set 16 x).set 17 y else q)) := by
    refine hσ.mod hi (n := st.num) (j := j) hj hsl.num ?_ (by simp [va_up]) (by simp [va_up]) ?_
    · intro k hk i hij
      by_cases e1 : k = 17
      · subst e1; simp [va_up, upd, hij]
      · by_cases e2 : k = 16
        · subst e2; simp [va_up, upd, hij]
        · simp [va_up, e1, e2]
    · intro st' hs' r
      refine ⟨fun k hk => ?_, fun _ => by simp [va_up, upd, St.rw], ?_, ?_, r.2.2.2.2⟩
      · have e1 : k ≠ 17 := by revert hk; simp; omega
        by_cases e2 : k = 16
        · subst e2; simp [va_up, upd, St.set]
        · simp [va_up, upd, St.set, e1, e2]; exact r.1 k hk
      · simp [va_up]; exact r.2.2.1
      · intro k hk; simp [va_up]; exact r.2.2.2.1 k hk
  have hN : ∀ k, k ∉ [12, 13, 14, 15, 16, 17, 18, 19, 20, 21] → va_up (va_up N 16 (upd (N 16) j x)) 17 (upd (N 17) j y) k = N k := fun k hk => by
    have : k ≠ 16 ∧ k ≠ 17 := by simp at hk; omega
    simp [va_up, this]
  have h1 := h.sts hm hN
  have hi1 : InvS (s.sts.map (fun q => if q.num = st.num then (q.set 16 x).set 17 y else q)) := hi.mod fun q hq e => ⟨by simp [St.rw], by simpa [St.rw] using hx, by simpa [St.rw] using hi.closed q hq, by simpa [St.rw] using hi.meth q hq⟩
  have e17 : (va_up N 16 (upd (N 16) j x)) 17 = N 17 := by simp [va_up]
  refine ⟨zi_in j4 (by decide), ?_⟩
  rw [zi_nat (by omega), e17]
  refine ⟨fun e => ⟨zi_in j4 (by decide), hp _ _ ?_⟩, fun e => hp _ _ ?_⟩
  · rw [if_pos e]
    have e12 : (va_up N 16 (upd (N 16) j x)) 12 = va_up (va_up N 16 (upd (N 16) j x)) 17 (upd (N 17) j y) 12 := by simp [va_up]
    rw [e12]
    refine h1.sts (hm.free hi1 (n := st.num) hj ?_) fun k hk => ?_
    · simp only [va_up, if_neg (show 12 ≠ 17 by decide), if_neg (show 12 ≠ 16 by decide)]; exact hsl.num
    · have : k ≠ 12 := by simp at hk; omega
      simp [va_up, this]
  · rw [if_neg e]; exact h1
