set_option maxRecDepth 100000
/-! PURE PART 40: the component's block -/
theorem c_fadd {gp ad : Nat → Nat} {hb h : x_H} {F : Nat → Int32} {M : Nat → Nat → Int32} {s : SS} {fs : List En} {a : Nat} {e : En} {mc ms : Nat} {post : Int32 → x_H → Prop} (hB : Bs gp hb) (hR : RC gp ad hb F M h s) (hf : HEn gp ad 5 13 h fs) (he : isEn h a e) (hl : fs.length ≤ 100) (hmc : 1 ≤ mc) (hms : 2 * fs.length + 10 ≤ ms) (hp : ∀ h', RC gp ad hb F M h' s → HEn gp ad 5 13 h' (fs ++ [e]) → post 1 h') : wJ2_add post gp (ad 5) a h mc ms := by
  obtain ⟨xs, hL, ha⟩ := hf
  have hlen := ha.len
  refine pJ2_add hL (Bs.g0 hB hR.2.1) (he.elt (by decide)) (fun y hy => ?_) (by omega) hmc (by omega) fun h' hL' hk' => ?_
  · obtain ⟨e', e1, e2⟩ := ha.mem hy
    exact e2.elt (by decide)
  · have hen : HEn gp ad 5 13 h' (fs ++ [e]) := ⟨xs ++ [a], hL', (ha.imp fun a b _ _ r => r.kpt hk' (by decide) (by decide)).append (cs := [a]) (ds := [e]) ⟨he.kpt hk' (by decide) (by decide), trivial⟩⟩
    exact hp h' (hR.fl hB hk' hen) hen
theorem HEn.cell {gp ad : Nat → Nat} {h : x_H} {n t : Nat} {l : List En} (hs : HEn gp ad n t h l) : ∃ fs, h (ad n) = some (t, .inr (7, fs)) := by
  obtain ⟨xs, hL, ha⟩ := hs
  exact hL.cell
theorem c_read_loop {gp ad : Nat → Nat} {hb : x_H} {M : Nat → Nat → Int32} {n : Nat} {post : Int32 → (Nat → Int32) → (Nat → Nat → Int32) → x_H → Prop} (hB : Bs gp hb) (hn1 : n ≤ 100) : ∀ (d i : Nat) (F : Nat → Int32) (h : x_H) (s : SS) (fs : List En) (mc ms : Nat), n ≤ i + d → i ≤ n → RC gp ad hb F M h s → Inv s → s.g 34 = Int32.ofNat n → HEn gp ad 5 13 h fs → fs.length ≤ i → F 203 = Int32.ofNat i → F 204 = 1 → 7 * (n - i) + 80 ≤ mc → 600 * (n - i) + 6000 ≤ ms →
    ((SS.rdLoop n d i s fs).1 = true → ∀ F' h', RC gp ad hb F' M h' (SS.rdLoop n d i s fs).2.1 → HEn gp ad 5 13 h' (SS.rdLoop n d i s fs).2.2 → post 1 F' M h') →
    ((SS.rdLoop n d i s fs).1 = false → ∀ F' h', RC gp ad hb F' M h' (SS.rdLoop n d i s fs).2.1 → post 0 F' M h') →
    wX4_read_b14 post gp ad (ad 5) (d + 2) F M h mc ms := by
  intro d
  induction d with
  | zero =>
    intro i F h s fs mc ms hd hi1 hR hI hn hf hl hi hg hmc hms h1 h0
    refine ⟨fun z => absurd (hg.symm.trans z) (by decide), fun _ => ⟨fun _ => ?_, fun z => ?_⟩⟩
    · unfold wX4_read_b207
      rw [hg]; exact ⟨nb1, h1 rfl F h hR hf⟩
    · rw [hR.f 34 202, hn, hi, zi_le (by omega) (by omega)] at z; omega
  | succ d ih =>
    intro i F h s fs mc ms hd hi1 hR hI hn hf hl hi hg hmc hms h1 h0
    have el : SS.rdLoop n (d + 1) i s fs = if i < n then (match s.rdStep n (s.a 35 i).toNatClampNeg (i + 1) fs with
        | none => (false, s, fs)
        | some q => SS.rdLoop n d q.2.2 q.1 q.2.1) else (true, s, fs) := rfl
    rw [el] at h1 h0
    refine ⟨fun z => absurd (hg.symm.trans z) (by decide), fun _ => ⟨fun z => ?_, fun z => ?_⟩⟩
    · rw [hR.f 34 202, hn, hi, zi_le (by omega) (by omega)] at z
      rw [if_neg (by omega)] at h1
      unfold wX4_read_b207
      rw [hg]; exact ⟨nb1, h1 rfl F h hR hf⟩
    · rw [hR.f 34 202, hn, hi, zi_le (by omega) (by omega)] at z
      have hlt : i < n := by omega
      rw [if_pos hlt] at h1 h0
      have bd := hI.bk i
      obtain ⟨b, hb1, eb⟩ := zi_nn (m := 255) bd.1 (by decide) bd.2
      rw [eb, zi_nat (by omega)] at h1 h0
      have go : ∀ (q : SS × List En × Nat) (F' : Nat → Int32) (h' : x_H) (m1 m2 : Nat), s.rdStep n b (i + 1) fs = some q → RC gp ad hb F' M h' q.1 → HEn gp ad 5 13 h' q.2.1 → F' 203 = Int32.ofNat q.2.2 → F' 204 = 1 → 7 * (n - q.2.2) + 80 ≤ m1 → 600 * (n - q.2.2) + 6000 ≤ m2 → wX4_read_b14 post gp ad (ad 5) (d + 2) F' M h' m1 m2 := by
        intro q F' h' m1 m2 e hr hf' e1 e2 hm1 hm2
        obtain ⟨r1, r2, r3, r4, r5, r6, r7, r8, r9⟩ := rdStep_ok hI (show i + 1 ≤ n by omega) e
        rw [e] at h1 h0
        exact ih q.2.2 F' h' q.1 q.2.1 m1 m2 (by omega) r5 hr r1 ((r6 34 (by decide)).trans hn) hf' (by omega) e1 e2 hm1 hm2 h1 h0
      have stop : ∀ (F' : Nat → Int32) (h' : x_H) (m1 m2 : Nat), s.rdStep n b (i + 1) fs = none → RC gp ad hb F' M h' s → F' 204 = 0 → wX4_read_b14 post gp ad (ad 5) (d + 2) F' M h' m1 m2 := by
        intro F' h' m1 m2 e hr e2
        rw [e] at h0
        refine ⟨fun _ => ?_, fun w => absurd e2 w⟩
        unfold wX4_read_b207
        rw [e2]; exact ⟨nb0, h0 rfl F' h' hr⟩
      obtain ⟨cf, ccf⟩ := hf.cell
      refine c_next hR hn hn1 hi hi1 hg (fun _ F1 hr g1 i1 => ?_) fun w => absurd hlt w
      rw [eb]
      have s127 : Int32.ofNat b ≤ 127 ↔ b ≤ 127 := zi_le (b := 127) (by omega) (by decide)
      have s63 : Int32.ofNat b ≤ 63 ↔ b ≤ 63 := zi_le (b := 63) (by omega) (by decide)
      have s31 : Int32.ofNat b ≤ 31 ↔ b ≤ 31 := zi_le (b := 31) (by omega) (by decide)
      have s15 : Int32.ofNat b ≤ 15 ↔ b ≤ 15 := zi_le (b := 15) (by omega) (by decide)
      rw [s127, s63, s31, s15]
      refine ⟨fun z1 => ⟨fun z2 => ⟨fun z3 => ⟨fun z4 => ?_, fun z4 => ?_⟩, fun z3 => ?_⟩, fun z2 => ?_⟩, fun z1 => ?_⟩
      · -- a literal
        have es : s.rdStep n b (i + 1) fs = (s.rdLit n b (i + 1)).map (fun q => (s, fs ++ [q.1], q.2)) := by
          unfold SS.rdStep; rw [if_neg (by omega), if_neg (by omega), if_neg (by omega), if_neg (by omega)]
        cases er : s.rdLit n b (i + 1) with
        | none =>
          rw [er] at es
          refine ⟨70, 5100, mc - 70, ms - 5100, by omega, by omega, c_literal hB hr hI hn hn1 i1 (by omega) g1 (by omega) (fun e i' w => by rw [er] at w; cases w) fun _ => ⟨by omega, fun q F' h' hr' e2 hk => ⟨fun _ => stop F' h' _ _ es hr' e2, fun w => absurd e2 w⟩⟩⟩
        | some r =>
          obtain ⟨e, i'⟩ := r
          rw [er] at es
          obtain ⟨a1, a2, a3⟩ := rdLit_ok hI (show i + 1 ≤ n by omega) er
          refine ⟨5 * (i' - (i + 1)), 312 * (i' - (i + 1)), mc - 5 * (i' - (i + 1)), ms - 312 * (i' - (i + 1)), by omega, by omega, c_literal hB hr hI hn hn1 i1 (by omega) g1 (by omega) (fun e2 i2 w => ?_) fun w => by rw [er] at w; cases w⟩
          rw [er] at w; cases w
          refine ⟨by omega, fun q F' h' hr' hen e1 e2 hk => ⟨fun w => absurd (e2.symm.trans w) (by decide), fun _ => ?_⟩⟩
          have hf' := hf.kpt hk (by decide)
          obtain ⟨cf2, ccf2⟩ := hf'.cell
          exact ⟨q, rfl, _, _, ccf2, 1, 2 * fs.length + 10, mc - 5 * (i' - (i + 1)) - 1, ms - 312 * (i' - (i + 1)) - (2 * fs.length + 10), by omega, by omega, c_fadd hB hr' hf' hen (by omega) (by omega) (by omega) fun h2 hr2 hf2 => go _ F' h2 _ _ es hr2 hf2 e1 e2 (by show 7 * (n - i') + 80 ≤ _; omega) (by show 600 * (n - i') + 6000 ≤ _; omega)⟩
      · have es : s.rdStep n b (i + 1) fs = none := by
          unfold SS.rdStep; rw [if_neg (by omega), if_neg (by omega), if_neg (by omega), if_pos (by omega)]
        exact stop _ h mc ms es (hr.priv 204 0) (by simp [upd])
      · -- the size
        have es : s.rdStep n b (i + 1) fs = (if fs = [] ∧ b ≤ 56 then some (SS.evict 0 (s.p 7 (Int32.ofNat (b - 32))), fs, i + 1) else none) := by
          unfold SS.rdStep; rw [if_neg (by omega), if_neg (by omega), if_pos (by omega)]
        have e32 : Int32.ofNat b - 32 = Int32.ofNat (b - 32) := zi_sub (a := b) (b := 32) (by omega)
        have no : ¬ (fs = [] ∧ b ≤ 56) → wX4_read_b146 post (wX4_read_b14 post gp ad (ad 5) (d + 2)) gp ad (ad 5) F1 M h mc ms (Int32.ofNat b) := fun hc => by
          rw [if_neg hc] at es
          exact ⟨Or.inl rfl, fun _ => stop _ h mc ms es (hr.priv 204 0) (by simp [upd]), fun w => absurd rfl w⟩
        obtain ⟨xs, hL, ha⟩ := id hf
        have hlen := ha.len
        refine ⟨_, _, ccf, pJ2_size hL ⟨fun w => ?_, fun w => no fun hc => ?_⟩⟩
        · rw [show (0 : Int32) = Int32.ofNat 0 from rfl, zi_eq (by omega) (by decide)] at w
          have fe : fs = [] := List.eq_nil_of_length_eq_zero (by omega)
          rw [e32]
          have s24 : (24 : Int32) < Int32.ofNat (b - 32) ↔ 24 < b - 32 := zi_lt (a := 24) (by decide) (by omega)
          rw [s24]
          refine ⟨fun y => no fun hc => by omega, fun y => ⟨Or.inr rfl, fun w => absurd w (by decide), fun _ => ?_⟩⟩
          rw [if_pos ⟨fe, by omega⟩] at es
          unfold wX2_resize
          rw [e32]
          refine c_evict hB ((hr.priv 204 1).set 7 102 (Int32.ofNat (b - 32))) fun h2 hr2 hk2 => ?_
          exact go _ _ h2 _ _ es hr2 (hf.kpt hk2 (by decide)) (by rw [upd_ne (by decide), upd_ne (by decide)]; exact i1) (by simp [upd]) (by show 7 * (n - (i + 1)) + 80 ≤ _; omega) (by show 600 * (n - (i + 1)) + 6000 ≤ _; omega)
        · rw [hc.1] at hlen
          exact w (by rw [hlen]; rfl)
      · -- a literal that the table keeps
        have e64 : Int32.ofNat b - 64 = Int32.ofNat (b - 64) := zi_sub (a := b) (b := 64) (by omega)
        rw [e64]
        have es : s.rdStep n b (i + 1) fs = (s.rdLit n (b - 64) (i + 1)).map (fun q => (SS.insert q.1 s, fs ++ [q.1], q.2)) := by
          unfold SS.rdStep; rw [if_neg (by omega), if_pos (by omega)]
        cases er : s.rdLit n (b - 64) (i + 1) with
        | none =>
          rw [er] at es
          refine ⟨70, 5100, mc - 70, ms - 5100, by omega, by omega, c_literal hB hr hI hn hn1 i1 (by omega) g1 (by omega) (fun e i' w => by rw [er] at w; cases w) fun _ => ⟨by omega, fun q F' h' hr' e2 hk => ⟨fun _ => ⟨fun _ => stop F' h' _ _ es hr' e2, fun w => absurd e2 w⟩, fun w => absurd e2 w⟩⟩⟩
        | some r =>
          obtain ⟨e, i'⟩ := r
          rw [er] at es
          obtain ⟨a1, a2, a3⟩ := rdLit_ok hI (show i + 1 ≤ n by omega) er
          refine ⟨5 * (i' - (i + 1)), 312 * (i' - (i + 1)), mc - 5 * (i' - (i + 1)), ms - 312 * (i' - (i + 1)), by omega, by omega, c_literal hB hr hI hn hn1 i1 (by omega) g1 (by omega) (fun e2 i2 w => ?_) fun w => by rw [er] at w; cases w⟩
          rw [er] at w; cases w
          refine ⟨by omega, fun q F' h' hr' hen e1 e2 hk => ⟨fun w => absurd (e2.symm.trans w) (by decide), fun _ => ⟨q, rfl, 1, 28, mc - 5 * (i' - (i + 1)) - 1, ms - 312 * (i' - (i + 1)) - 28, by omega, by omega, c_insert hB hr' hI hen (by omega) (by omega) fun h2 hr2 hk2 => ⟨fun w => absurd (e2.symm.trans w) (by decide), fun _ => ?_⟩⟩⟩⟩
          have hf' := (hf.kpt hk (by decide)).kpt hk2 (by decide)
          obtain ⟨cf2, ccf2⟩ := hf'.cell
          exact ⟨q, rfl, _, _, ccf2, 1, 2 * fs.length + 10, mc - 5 * (i' - (i + 1)) - 1 - 1, ms - 312 * (i' - (i + 1)) - 28 - (2 * fs.length + 10), by omega, by omega, c_fadd hB hr2 hf' (hen.kpt hk2 (by decide) (by decide)) (by omega) (by omega) (by omega) fun h3 hr3 hf3 => go _ F' h3 _ _ es hr3 hf3 e1 e2 (by show 7 * (n - i') + 80 ≤ _; omega) (by show 600 * (n - i') + 6000 ≤ _; omega)⟩
      · -- an entry
        have e128 : Int32.ofNat b - 128 = Int32.ofNat (b - 128) := zi_sub (a := b) (b := 128) (by omega)
        rw [e128]
        have es : s.rdStep n b (i + 1) fs = (s.ent (b - 128)).map (fun e => (s, fs ++ [e], i + 1)) := by
          unfold SS.rdStep; rw [if_pos (by omega)]
        refine c_rknown hr hI g1 (by omega) (fun a e he hen => ⟨fun w => absurd w (by simp [upd]), fun _ => ⟨a, rfl, _, _, ccf, 1, 2 * fs.length + 10, mc - 1, ms - (2 * fs.length + 10), by omega, by omega, ?_⟩⟩) fun e => ⟨fun _ => ?_, fun w => absurd (by simp [upd]) w⟩
        · rw [he] at es
          exact c_fadd hB (hr.priv 204 1) hf hen (by omega) (by omega) (by omega) fun h2 hr2 hf2 => go _ _ h2 _ _ es hr2 hf2 (by rw [upd_ne (by decide)]; exact i1) (by simp [upd]) (by show 7 * (n - (i + 1)) + 80 ≤ _; omega) (by show 600 * (n - (i + 1)) + 6000 ≤ _; omega)
        · rw [e] at es
          exact stop _ h mc ms es (hr.priv 204 0) (by simp [upd])
theorem c_read {gp ad : Nat → Nat} {hb h : x_H} {F : Nat → Int32} {M : Nat → Nat → Int32} {s : SS} {mc ms : Nat} {post : Int32 → (Nat → Int32) → (Nat → Nat → Int32) → x_H → Prop} (hB : Bs gp hb) (hR : RC gp ad hb F M h s) (hI : Inv s) (hmc : 780 ≤ mc) (hms : 66000 ≤ ms)
    (h1 : s.readBlock.1 = true → ∀ F' h', RC gp ad hb F' M h' s.readBlock.2.1 → HEn gp ad 5 13 h' s.readBlock.2.2 → post 1 F' M h') (h0 : s.readBlock.1 = false → ∀ F' h', RC gp ad hb F' M h' s.readBlock.2.1 → post 0 F' M h') : wX4_read post gp ad (ad 5) F M h mc ms := by
  obtain ⟨n, hn1, en⟩ := zi_nn (m := 100) hI.g34.1 (by decide) hI.g34.2
  have er : s.readBlock = SS.rdLoop n n 0 s [] := by unfold SS.readBlock; rw [en, zi_nat (by omega)]
  rw [er] at h1 h0
  obtain ⟨fs, xs, hL, ha⟩ := hR.2.2.2.2.1
  obtain ⟨cf, ccf⟩ := hL.cell
  refine ⟨_, _, ccf, pJ2_clear hL fun h2 hL2 hk2 => ⟨n + 2, ?_⟩⟩
  have hf2 : HEn gp ad 5 13 h2 [] := ⟨[], hL2, trivial⟩
  exact c_read_loop hB hn1 n 0 _ h2 s [] mc ms (by omega) (by omega) (((hR.fl hB hk2 hf2).priv 203 0).priv 204 1) hI en hf2 (by simp) (by simp [upd]) (by simp [upd]) (by omega) (by omega) h1 h0
