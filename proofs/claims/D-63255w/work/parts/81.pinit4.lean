set_option maxRecDepth 100000
/-! PURE PART 55: the component's constructors: Table, Reader -/
theorem c_mkL {gp : Nat → Nat} {h : x_H} {p0 ci k T τ mc ms : Nat} {fs : List Value} {K : x_H → Nat → Nat → Prop} (fs' : Nat → List Value) (hT : T ≠ 1) (hτ : τ ≠ 1) (hTτ : T ≠ τ) (hc : h p0 = some (T, .inr (ci, fs))) (hk : k < fs.length) (hfs : ∀ cq, fs.set k (.ref cq) = fs' cq) (h0 : ∃ f, h (gp 0) = some (1, oarr 0 f)) (hmc : 1 ≤ mc) (hms : 3 ≤ ms) (hp : ∀ cq h', h' p0 = some (T, .inr (ci, fs' cq)) → LST gp h' cq τ [] → kp [T, τ] h h' → K h' (mc - 1) (ms - 3)) :
    ∃ mc' ms' : Nat, 1 + mc' ≤ mc ∧ 3 + ms' ≤ ms ∧ ∀ cq : Nat, h cq = none → ∃ t : Nat, t ≠ 1 ∧ ∀ h1 : x_H, h1 = x_hs h cq t (.inr (7, [.int 0, .null, .int 0])) → wJ2_init (fun h2 => ∃ (t2 : Nat) (fs2 : List Value), h2 p0 = some (t2, .inr (ci, fs2)) ∧ t2 ≠ 1 ∧ k < fs2.length ∧ ∀ h3 : x_H, h3 = x_hs h2 p0 t2 (.inr (ci, fs2.set k (.ref cq))) → K h3 mc' ms') gp cq h1 := by
  refine ⟨mc - 1, ms - 3, by omega, by omega, fun cq hq => ⟨τ, hτ, fun h1 e1 => ?_⟩⟩
  have k1 : kp [] h h1 := by rw [e1]; exact kp.new0 hq
  refine pJ2_init (by rw [e1]; exact x_hs_self _ _ _ _) hτ (h0.elim fun f hf => ⟨f, k1 _ _ _ (by simp) hf⟩) fun h2 hL2 hk2 => ?_
  have c2 : h2 p0 = some (T, .inr (ci, fs)) := hk2 _ _ _ (by simp [hTτ]) (k1 _ _ _ (by simp) hc)
  refine ⟨T, fs, c2, hT, hk, fun h3 e3 => ?_⟩
  have k3 : kp [T] h2 h3 := by rw [e3]; exact kp.set c2 (by simp)
  refine hp cq h3 (by rw [e3, hfs]; exact x_hs_self _ _ _ _) (hL2.kpt k3 (by simp [Ne.symm hTτ]) (by simp [Ne.symm hT])) ?_
  exact ((k1.wk (by simp)).tr (hk2.wk (by simp))).tr (k3.wk (by simp))
theorem Bs.o0 {gp : Nat → Nat} {hb h : x_H} (hB : Bs gp hb) (h0 : kp [] hb h) : ∃ f, h (gp 0) = some (1, oarr 0 f) := hB.2.1.elim fun f hf => ⟨f, h0 _ _ _ (by simp) hf⟩
def TB (gp : Nat → Nat) (hb h : x_H) (p0 fx cm : Nat) (es : List En) : Prop := kp [] hb h ∧ h p0 = some (31, .inr (1, [.ref fx, .ref cm, .int 24])) ∧ LST gp h cm 15 [] ∧ ∃ xs, LST gp h fx 14 xs ∧ All2 (isEn h) xs es
theorem c_tabE {gp : Nat → Nat} {hb h : x_H} {p0 fx cm n v mc ms : Nat} {es : List En} {nm vl : List Int32} {K : x_H → Nat → Nat → Prop} (hB : Bs gp hb) (hw : TB gp hb h p0 fx cm es) (hes : es.length ≤ 7) (hn : isStr hb n nm) (hv : isStr hb v vl) (hmc : 2 ≤ mc) (hms : 40 ≤ ms) (hp : ∀ h', TB gp hb h' p0 fx cm (es ++ [(nm, vl)]) → kp [14] h h' → K h' (mc - 2) (ms - 40)) :
    ∃ vv : Option Nat, x_f h p0 1 0 (va_rf vv) ∧ ∃ mc1 ms1 : Nat, 1 + mc1 ≤ mc ∧ 2 + ms1 ≤ ms ∧ ∀ cq : Nat, h cq = none → ∃ t : Nat, t ≠ 1 ∧ ∀ h1 : x_H, h1 = x_hs h cq t (.inr (2, [.null, .null])) → wX3_init (fun h2 => ∃ a : Nat, vv = some a ∧ ∃ (t2 : Nat) (fs2 : List Value), h2 a = some (t2, .inr (7, fs2)) ∧ ∃ ca cb mc2 ms2 : Nat, ca + mc2 ≤ mc1 ∧ cb + ms2 ≤ ms1 ∧ wJ2_add (fun r h3 => K h3 mc2 ms2) gp a cq h2 ca cb) cq n v h1 := by
  obtain ⟨w1, w2, w3, xs, w4, w5⟩ := hw
  have hlen := w5.len
  refine ⟨some fx, ⟨_, _, w2, rfl⟩, mc - 1, ms - 2, by omega, by omega, fun cq hq => ⟨2, by decide, fun h1 e1 => ?_⟩⟩
  have k1 : ∀ (e1 e2 e3 : x_E), kp [] h (x_hs (x_hs (x_hs h cq 2 e1) cq 2 e2) cq 2 e3) := fun e1 e2 e3 q' t e _ hq' => by
    have hne : q' ≠ cq := fun w => by subst w; rw [hq] at hq'; cases hq'
    rw [x_hs_ne hne, x_hs_ne hne, x_hs_ne hne]; exact hq'
  subst e1
  refine ⟨_, _, x_hs_self _ _ _ _, by decide, by decide, fun h2 e2 => ⟨2, [.ref n, .null], by rw [e2]; exact x_hs_self _ _ _ _, by decide, by simp, fun h3 e3 => ?_⟩⟩
  have kk : kp [] h h3 := by subst e2; subst e3; exact k1 _ _ _
  have c3 : h3 cq = some (2, .inr (2, [.ref n, .ref v])) := by rw [e3]; exact x_hs_self _ _ _ _
  have hb3 := hB.kpt w1 kk (by simp)
  have hen : isEn h3 cq (nm, vl) := ⟨n, v, c3, hn.bs hb3, hv.bs hb3⟩
  have hL3 := w4.kpt kk (by simp) (by simp)
  have ha3 : All2 (isEn h3) xs es := w5.imp fun y e _ _ r => r.kpt kk (by simp) (by simp)
  obtain ⟨fl, ccl⟩ := hL3.cell
  refine ⟨fx, rfl, _, _, ccl, 1, 30, mc - 2, ms - 40, by omega, by omega, pJ2_add hL3 (Bs.g0 hB hb3) (hen.elt (by decide)) (fun y hy => ?_) (by omega) (by omega) (by omega) fun h4 hL4 hk4 => ?_⟩
  · obtain ⟨p, p1, p2⟩ := ha3.mem hy
    exact p2.elt (by decide)
  · refine hp h4 ⟨hB.kpt hb3 hk4 (by decide), hk4 _ _ _ (by decide) (kk _ _ _ (by simp) w2), (w3.kpt kk (by simp) (by simp)).kpt hk4 (by decide) (by decide), xs ++ [cq], hL4, ?_⟩ ((kk.wk (by simp)).tr hk4)
    exact All2.append (cs := [cq]) (ds := [(nm, vl)]) (ha3.imp fun y e _ _ r => r.kpt hk4 (by decide) (by decide)) ⟨hen.kpt hk4 (by decide) (by decide), trivial⟩
theorem c_table {gp : Nat → Nat} {hb h : x_H} {p0 mc ms : Nat} {post : x_H → Prop} (hB : Bs gp hb) (hb0 : kp [] hb h) (hc : h p0 = some (31, .inr (1, [.null, .null, .int 0]))) (hmc : 20 ≤ mc) (hms : 400 ≤ ms) (hp : ∀ h' fx cm, TB gp hb h' p0 fx cm fixedE → kp [31, 14, 15] h h' → post h') : wX2_init post gp p0 h mc ms := by
  obtain ⟨-, -, -, s10, s11, s12, s13, s14, s15, s16, s17, s18, s19, s20⟩ := id hB
  refine c_mkL (T := 31) (τ := 14) (fun cq => [.ref cq, .null, .int 0]) (by decide) (by decide) (by decide) hc (by decide) (fun _ => rfl) (Bs.o0 hB hb0) (by omega) (by omega) fun fx h1 c1 l1 k1 => ?_
  have hb1 := hB.kpt hb0 k1 (by decide)
  refine c_mkL (T := 31) (τ := 15) (fun cq => [.ref fx, .ref cq, .int 0]) (by decide) (by decide) (by decide) c1 (by simp) (fun _ => rfl) (Bs.o0 hB hb1) (by omega) (by omega) fun cm h2 c2 l2 k2 => ?_
  have hb2 := hB.kpt hb1 k2 (by decide)
  refine ⟨31, _, c2, by decide, by show (2 : Nat) < 3; decide, fun h3 e3 => ?_⟩
  have k3 : kp [31] h2 h3 := by rw [e3]; exact kp.set c2 (by simp)
  have c3 : h3 p0 = some (31, .inr (1, [.ref fx, .ref cm, .int 24])) := by rw [e3]; exact x_hs_self _ _ _ _
  have w : TB gp hb h3 p0 fx cm [] := ⟨hB.kpt hb2 k3 (by decide), c3, l2.kpt k3 (by decide) (by decide), [], (l1.kpt k2 (by decide) (by decide)).kpt k3 (by decide) (by decide), trivial⟩
  have kA : kp [31, 14, 15] h h3 := ((k1.wk (by simp)).tr (k2.wk (by simp))).tr (k3.wk (by simp))
  refine c_tabE hB w (by decide) s10 s11 (by omega) (by omega) fun h4 w4 q4 => ?_
  refine c_tabE hB w4 (by decide) s10 s12 (by omega) (by omega) fun h5 w5 q5 => ?_
  refine c_tabE hB w5 (by decide) s13 s14 (by omega) (by omega) fun h6 w6 q6 => ?_
  refine c_tabE hB w6 (by decide) s15 s16 (by omega) (by omega) fun h7 w7 q7 => ?_
  refine c_tabE hB w7 (by decide) s17 s16 (by omega) (by omega) fun h8 w8 q8 => ?_
  refine c_tabE hB w8 (by decide) s18 s19 (by omega) (by omega) fun h9 w9 q9 => ?_
  refine c_tabE hB w9 (by decide) s18 s20 (by omega) (by omega) fun h10 w10 q10 => ?_
  exact hp h10 fx cm w10 (kA.tr (((((((q4.tr q5).tr q6).tr q7).tr q8).tr q9).tr q10).wk (by simp)))
theorem c_reader {h : x_H} {p0 mc ms : Nat} {post : x_H → Prop} (hc : h p0 = some (32, .inr (3, [.null, .null, .int 0, .int 0, .int 0]))) (hmc : 5 ≤ mc) (hms : 200 ≤ ms) (hp : ∀ h' bk sb, h' p0 = some (32, .inr (3, [.ref bk, .ref sb, .int 0, .int 0, .int 0])) → h' bk = some (33, .inl (.byte, (100, .inl (fun _ => 0)))) → SB h' sb 16 [] → kp [32, 16] h h' → post h') : wX4_init post p0 h mc ms := by
  have z100 : (100 : Int32).toNatClampNeg = 100 := rfl
  unfold wX4_init
  rw [z100]
  refine ⟨mc - 1, ms - 100, by omega, by omega, by decide, by decide, fun bk hbk => ⟨33, by decide, fun h1 e1 => ?_⟩⟩
  have k1 : kp [] h h1 := by rw [e1]; exact kp.new0 hbk
  have b1 : h1 bk = some (33, .inl (.byte, (100, .inl (fun _ => 0)))) := by rw [e1]; exact x_hs_self _ _ _ _
  have c1 := k1 _ _ _ (by simp) hc
  refine ⟨32, _, c1, by decide, by show (0 : Nat) < 5; decide, fun h2 e2 => ?_⟩
  have k2 : kp [32] h1 h2 := by rw [e2]; exact kp.set c1 (by simp)
  have c2 := (congrFun e2 p0).trans (x_hs_self _ _ _ _)
  refine ⟨mc - 2, ms - 104, by omega, by omega, fun sb hsb => ⟨16, by decide, fun h3 e3 => ?_⟩⟩
  have k3 : kp [] h2 h3 := by rw [e3]; exact kp.new0 hsb
  have s3 := (congrFun e3 sb).trans (x_hs_self _ _ _ _)
  refine ⟨1, 16, mc - 3, ms - 120, by omega, by omega, pJ8_init s3 (by decide) (by omega) (by omega) fun h4 hS4 hk4 => ?_⟩
  have c4 := hk4 _ _ _ (by decide) (k3 _ _ _ (by simp) c2)
  refine ⟨32, _, c4, by decide, by show (1 : Nat) < 5; decide, fun h5 e5 => ?_⟩
  have k5 : kp [32] h4 h5 := by rw [e5]; exact kp.set c4 (by simp)
  refine hp h5 bk sb ((congrFun e5 p0).trans (x_hs_self _ _ _ _)) (k5 _ _ _ (by decide) (hk4 _ _ _ (by decide) (k3 _ _ _ (by simp) (k2 _ _ _ (by decide) b1)))) (hS4.kpt k5 (by decide)) ?_
  exact ((((k1.wk (by simp)).tr (k2.wk (by simp))).tr (k3.wk (by simp))).tr (hk4.wk (by simp))).tr (k5.wk (by simp))
