/-! the start: the words of the Statement -/
set_option maxRecDepth 100000
theorem s_eqT {args : Array Value} {s : State} {t t' : Term} {a : Nat} (h : (Cond.eq t t').before args s = true) (h' : t'.eval args s none [] s = some (.ref a)) : t.eval args s none [] s = some (.ref a) := by
  cases hv : t.eval args s none [] s with
  | none => simp [Cond.before, Cond.holds, Cond.value, hv] at h
  | some w =>
    simp only [Cond.before, Cond.holds, Cond.value, hv, h'] at h
    cases w <;> simp_all
theorem s_Astr {D : va_G} {s : State} (hK : x_K D s) {a v : Nat} (cs : List Int32) (hl : cs.length ≤ 1000) (h1 : x_rd D s a (.inr (9, [.ref v, .int 0])) s.heap) (h2 : x_rd D s v (.inl (.byte, (cs.length, .inl (fun j => cs.getD j 0)))) s.heap) : isStr (s_h D s) a cs := by
  have e1 := s_h_eq hK (Or.inl ⟨v, rfl⟩) h1
  have e2 := s_h_eq hK (Or.inr (Or.inl ⟨.byte, cs.length, _, rfl, Or.inr rfl, by omega, fun j hj => by simp [List.getD, List.getElem?_eq_none hj]⟩)) h2
  exact ⟨1, [.ref v, .int 0], v, 1, _, Or.inl rfl, Or.inl rfl, e1, rfl, rfl, e2, fun k _ => rfl, hl⟩
theorem s_str10 {D : va_G} {s : State} {args : Array Value} (hK : x_K D s) (hs : ∀ c ∈ flatC (Jvm.Cond.and given_1 narrow_1), c.before args s = true) : ∃ a v : Nat, (Term.string "PageServer" 261).eval args s none [] s = some (.ref a) ∧ x_rd D s a (.inr (9, [.ref v, .int 0])) s.heap ∧ x_rd D s v (.inl (.byte, (([58, 109] : List Int32).length, .inl (fun j => ([58, 109] : List Int32).getD j 0)))) s.heap :=
  s_str hK [58, 109] (by decide) (hs _ (by decide +kernel)) (hs _ (by decide +kernel)) (hs _ (by decide +kernel)) (hs _ (by decide +kernel)) (fun j hj => by
    rcases (show j = 0 ∨ j = 1 by have : j < 2 := hj; omega) with rfl | rfl
    · exact hs _ (by decide +kernel)
    · exact hs _ (by decide +kernel)
    )
theorem s_str11 {D : va_G} {s : State} {args : Array Value} (hK : x_K D s) (hs : ∀ c ∈ flatC (Jvm.Cond.and given_1 narrow_1), c.before args s = true) : ∃ a v : Nat, (Term.string "PageServer" 291).eval args s none [] s = some (.ref a) ∧ x_rd D s a (.inr (9, [.ref v, .int 0])) s.heap ∧ x_rd D s v (.inl (.byte, (([71, 69, 84] : List Int32).length, .inl (fun j => ([71, 69, 84] : List Int32).getD j 0)))) s.heap :=
  s_str hK [71, 69, 84] (by decide) (hs _ (by decide +kernel)) (hs _ (by decide +kernel)) (hs _ (by decide +kernel)) (hs _ (by decide +kernel)) (fun j hj => by
    rcases (show j = 0 ∨ j = 1 ∨ j = 2 by have : j < 3 := hj; omega) with rfl | rfl | rfl
    · exact hs _ (by decide +kernel)
    · exact hs _ (by decide +kernel)
    · exact hs _ (by decide +kernel)
    )
theorem s_str12 {D : va_G} {s : State} {args : Array Value} (hK : x_K D s) (hs : ∀ c ∈ flatC (Jvm.Cond.and given_1 narrow_1), c.before args s = true) : ∃ a v : Nat, (Term.string "PageServer" 289).eval args s none [] s = some (.ref a) ∧ x_rd D s a (.inr (9, [.ref v, .int 0])) s.heap ∧ x_rd D s v (.inl (.byte, (([72, 69, 65, 68] : List Int32).length, .inl (fun j => ([72, 69, 65, 68] : List Int32).getD j 0)))) s.heap :=
  s_str hK [72, 69, 65, 68] (by decide) (hs _ (by decide +kernel)) (hs _ (by decide +kernel)) (hs _ (by decide +kernel)) (hs _ (by decide +kernel)) (fun j hj => by
    rcases (show j = 0 ∨ j = 1 ∨ j = 2 ∨ j = 3 by have : j < 4 := hj; omega) with rfl | rfl | rfl | rfl
    · exact hs _ (by decide +kernel)
    · exact hs _ (by decide +kernel)
    · exact hs _ (by decide +kernel)
    · exact hs _ (by decide +kernel)
    )
theorem s_str13 {D : va_G} {s : State} {args : Array Value} (hK : x_K D s) (hs : ∀ c ∈ flatC (Jvm.Cond.and given_1 narrow_1), c.before args s = true) : ∃ a v : Nat, (Term.string "PageServer" 266).eval args s none [] s = some (.ref a) ∧ x_rd D s a (.inr (9, [.ref v, .int 0])) s.heap ∧ x_rd D s v (.inl (.byte, (([58, 112] : List Int32).length, .inl (fun j => ([58, 112] : List Int32).getD j 0)))) s.heap :=
  s_str hK [58, 112] (by decide) (hs _ (by decide +kernel)) (hs _ (by decide +kernel)) (hs _ (by decide +kernel)) (hs _ (by decide +kernel)) (fun j hj => by
    rcases (show j = 0 ∨ j = 1 by have : j < 2 := hj; omega) with rfl | rfl
    · exact hs _ (by decide +kernel)
    · exact hs _ (by decide +kernel)
    )
theorem s_str14 {D : va_G} {s : State} {args : Array Value} (hK : x_K D s) (hs : ∀ c ∈ flatC (Jvm.Cond.and given_1 narrow_1), c.before args s = true) : ∃ a v : Nat, (Term.string "PageServer$Table" 42).eval args s none [] s = some (.ref a) ∧ x_rd D s a (.inr (9, [.ref v, .int 0])) s.heap ∧ x_rd D s v (.inl (.byte, (([47] : List Int32).length, .inl (fun j => ([47] : List Int32).getD j 0)))) s.heap :=
  s_str hK [47] (by decide) (hs _ (by decide +kernel)) (hs _ (by decide +kernel)) (hs _ (by decide +kernel)) (hs _ (by decide +kernel)) (fun j hj => by
    have : j = 0 := by have : j < 1 := hj; omega
    subst this
    exact hs _ (by decide +kernel))
theorem s_str15 {D : va_G} {s : State} {args : Array Value} (hK : x_K D s) (hs : ∀ c ∈ flatC (Jvm.Cond.and given_1 narrow_1), c.before args s = true) : ∃ a v : Nat, (Term.string "PageServer$Table" 44).eval args s none [] s = some (.ref a) ∧ x_rd D s a (.inr (9, [.ref v, .int 0])) s.heap ∧ x_rd D s v (.inl (.byte, (([104, 111, 115, 116] : List Int32).length, .inl (fun j => ([104, 111, 115, 116] : List Int32).getD j 0)))) s.heap :=
  s_str hK [104, 111, 115, 116] (by decide) (hs _ (by decide +kernel)) (hs _ (by decide +kernel)) (hs _ (by decide +kernel)) (hs _ (by decide +kernel)) (fun j hj => by
    rcases (show j = 0 ∨ j = 1 ∨ j = 2 ∨ j = 3 by have : j < 4 := hj; omega) with rfl | rfl | rfl | rfl
    · exact hs _ (by decide +kernel)
    · exact hs _ (by decide +kernel)
    · exact hs _ (by decide +kernel)
    · exact hs _ (by decide +kernel)
    )
theorem s_str16 {D : va_G} {s : State} {args : Array Value} (hK : x_K D s) (hs : ∀ c ∈ flatC (Jvm.Cond.and given_1 narrow_1), c.before args s = true) : ∃ a v : Nat, (Term.string "PageServer$Reader" 65).eval args s none [] s = some (.ref a) ∧ x_rd D s a (.inr (9, [.ref v, .int 0])) s.heap ∧ x_rd D s v (.inl (.byte, (([] : List Int32).length, .inl (fun j => ([] : List Int32).getD j 0)))) s.heap :=
  s_str hK [] (by decide) (hs _ (by decide +kernel)) (hs _ (by decide +kernel)) (hs _ (by decide +kernel)) (hs _ (by decide +kernel)) (fun j hj => absurd hj (Nat.not_lt_zero j))
theorem s_str17 {D : va_G} {s : State} {args : Array Value} (hK : x_K D s) (hs : ∀ c ∈ flatC (Jvm.Cond.and given_1 narrow_1), c.before args s = true) : ∃ a v : Nat, (Term.string "PageServer" 272).eval args s none [] s = some (.ref a) ∧ x_rd D s a (.inr (9, [.ref v, .int 0])) s.heap ∧ x_rd D s v (.inl (.byte, (([108, 101, 110, 103, 116, 104] : List Int32).length, .inl (fun j => ([108, 101, 110, 103, 116, 104] : List Int32).getD j 0)))) s.heap :=
  s_str hK [108, 101, 110, 103, 116, 104] (by decide) (hs _ (by decide +kernel)) (hs _ (by decide +kernel)) (hs _ (by decide +kernel)) (hs _ (by decide +kernel)) (fun j hj => by
    rcases (show j = 0 ∨ j = 1 ∨ j = 2 ∨ j = 3 ∨ j = 4 ∨ j = 5 by have : j < 6 := hj; omega) with rfl | rfl | rfl | rfl | rfl | rfl
    · exact hs _ (by decide +kernel)
    · exact hs _ (by decide +kernel)
    · exact hs _ (by decide +kernel)
    · exact hs _ (by decide +kernel)
    · exact hs _ (by decide +kernel)
    · exact hs _ (by decide +kernel)
    )
theorem s_str18 {D : va_G} {s : State} {args : Array Value} (hK : x_K D s) (hs : ∀ c ∈ flatC (Jvm.Cond.and given_1 narrow_1), c.before args s = true) : ∃ a v : Nat, (Term.string "PageServer$Table" 50).eval args s none [] s = some (.ref a) ∧ x_rd D s a (.inr (9, [.ref v, .int 0])) s.heap ∧ x_rd D s v (.inl (.byte, (([58, 115] : List Int32).length, .inl (fun j => ([58, 115] : List Int32).getD j 0)))) s.heap :=
  s_str hK [58, 115] (by decide) (hs _ (by decide +kernel)) (hs _ (by decide +kernel)) (hs _ (by decide +kernel)) (hs _ (by decide +kernel)) (fun j hj => by
    rcases (show j = 0 ∨ j = 1 by have : j < 2 := hj; omega) with rfl | rfl
    · exact hs _ (by decide +kernel)
    · exact hs _ (by decide +kernel)
    )
theorem s_str19 {D : va_G} {s : State} {args : Array Value} (hK : x_K D s) (hs : ∀ c ∈ flatC (Jvm.Cond.and given_1 narrow_1), c.before args s = true) : ∃ a v : Nat, (Term.string "PageServer$Table" 52).eval args s none [] s = some (.ref a) ∧ x_rd D s a (.inr (9, [.ref v, .int 0])) s.heap ∧ x_rd D s v (.inl (.byte, (([50, 48, 48] : List Int32).length, .inl (fun j => ([50, 48, 48] : List Int32).getD j 0)))) s.heap :=
  s_str hK [50, 48, 48] (by decide) (hs _ (by decide +kernel)) (hs _ (by decide +kernel)) (hs _ (by decide +kernel)) (hs _ (by decide +kernel)) (fun j hj => by
    rcases (show j = 0 ∨ j = 1 ∨ j = 2 by have : j < 3 := hj; omega) with rfl | rfl | rfl
    · exact hs _ (by decide +kernel)
    · exact hs _ (by decide +kernel)
    · exact hs _ (by decide +kernel)
    )
theorem s_str20 {D : va_G} {s : State} {args : Array Value} (hK : x_K D s) (hs : ∀ c ∈ flatC (Jvm.Cond.and given_1 narrow_1), c.before args s = true) : ∃ a v : Nat, (Term.string "PageServer$Table" 54).eval args s none [] s = some (.ref a) ∧ x_rd D s a (.inr (9, [.ref v, .int 0])) s.heap ∧ x_rd D s v (.inl (.byte, (([52, 48, 52] : List Int32).length, .inl (fun j => ([52, 48, 52] : List Int32).getD j 0)))) s.heap :=
  s_str hK [52, 48, 52] (by decide) (hs _ (by decide +kernel)) (hs _ (by decide +kernel)) (hs _ (by decide +kernel)) (hs _ (by decide +kernel)) (fun j hj => by
    rcases (show j = 0 ∨ j = 1 ∨ j = 2 by have : j < 3 := hj; omega) with rfl | rfl | rfl
    · exact hs _ (by decide +kernel)
    · exact hs _ (by decide +kernel)
    · exact hs _ (by decide +kernel)
    )
theorem s_start {s : State} {b : Nat} (hts : ∀ w ∈ lw_tbl, w.before #[Value.ref b] s = true) (hgv : (Jvm.Cond.and given_1 narrow_1).before #[Value.ref b] s = true) : ∃ (D : va_G) (gp : Nat → Nat), x_G D s.heap.size gp s ∧ Bs gp (s_h D s) := by
  have hs := flat_of_before _ hgv
  have hA : ∀ a : Nat, a < s.heap.size → ¬ x_A s.heap.size a := fun a ha hn => absurd hn (Nat.not_le.mpr ha)
  obtain ⟨D, hK⟩ := s_K hts
  obtain ⟨p0, e0, T0⟩ := va_Tof (args := #[Value.ref b]) (s := s) (tm := .static "java/util/ArrayList" "DEFAULTCAPACITY_EMPTY_ELEMENTDATA" "[Ljava/lang/Object;") (ty := .object "java/lang/Object") (N := 0) (f := fun _ => .null) (A := x_A s.heap.size) (by decide) (hs _ (by decide +kernel)) (va_eqt (hs (.eq (.length (.static "java/util/ArrayList" "DEFAULTCAPACITY_EMPTY_ELEMENTDATA" "[Ljava/lang/Object;")) (.int 0)) (by decide +kernel))) (fun j hj => absurd hj (Nat.not_lt_zero j)) hA
  obtain ⟨p1, e1, T1⟩ := va_Tof (args := #[Value.ref b]) (s := s) (tm := .static "PageServer" "PREFACE" "[I") (ty := .int) (N := 4) (f := fun j => .int (([80, 82, 73, 10] : List Int32).getD j 0)) (A := x_A s.heap.size) (by decide) (hs _ (by decide +kernel)) (va_eqt (hs (.eq (.length (.static "PageServer" "PREFACE" "[I")) (.int 4)) (by decide +kernel))) (fun j hj => by
    rcases (show j = 0 ∨ j = 1 ∨ j = 2 ∨ j = 3 by omega) with rfl | rfl | rfl | rfl
    · exact va_eqt (hs (.eq (.elem (.static "PageServer" "PREFACE" "[I") (.int 0)) (.int 80)) (by decide +kernel))
    · exact va_eqt (hs (.eq (.elem (.static "PageServer" "PREFACE" "[I") (.int 1)) (.int 82)) (by decide +kernel))
    · exact va_eqt (hs (.eq (.elem (.static "PageServer" "PREFACE" "[I") (.int 2)) (.int 73)) (by decide +kernel))
    · exact va_eqt (hs (.eq (.elem (.static "PageServer" "PREFACE" "[I") (.int 3)) (.int 10)) (by decide +kernel))) hA
  have Z0 := va_Zref (hts (.laysStatic "java/util/ArrayList" "DEFAULTCAPACITY_EMPTY_ELEMENTDATA" "[Ljava/lang/Object;") (by decide +kernel)) (hts (.initialized "java/util/ArrayList") (by decide +kernel)) e0 hA
  have Z1 := va_Zref (hts (.laysStatic "PageServer" "PREFACE" "[I") (by decide +kernel)) (hts (.initialized "PageServer") (by decide +kernel)) e1 hA
  have Z2 := va_Zof (hts (.laysStatic "java/lang/String" "COMPACT_STRINGS" "Z") (by decide +kernel)) (hts (.initialized "java/lang/String") (by decide +kernel)) (va_eqt (hs (.eq (.static "java/lang/String" "COMPACT_STRINGS" "Z") (.int 1)) (by decide +kernel))) hA
  have Z3 := vx_Zqof (hts (.laysStatic Bundle.tN "UNASSIGNED_STACK" Bundle.steD) (by decide +kernel)) (hts (.initialized Bundle.tN) (by decide +kernel)) (hs (.isRef (.static Bundle.tN "UNASSIGNED_STACK" Bundle.steD)) (by decide +kernel)) hA
  have Z4 := vx_Zqof (hts (.laysStatic Bundle.tN "SUPPRESSED_SENTINEL" Bundle.listD) (by decide +kernel)) (hts (.initialized Bundle.tN) (by decide +kernel)) (hs (.isRef (.static Bundle.tN "SUPPRESSED_SENTINEL" Bundle.listD)) (by decide +kernel)) hA
  have Z5 : ∃ f3 f4 : Nat, va_Z "jdk/internal/util/Preconditions" "SIOOBE_FORMATTER" "Ljava/util/function/BiFunction;" (va_rf (if f4 = 0 then none else some f3)) (x_A s.heap.size) s s.heap := by
    rcases va_Zqof (hts (.laysStatic "jdk/internal/util/Preconditions" "SIOOBE_FORMATTER" "Ljava/util/function/BiFunction;") (by decide +kernel)) (hts (.initialized "jdk/internal/util/Preconditions") (by decide +kernel)) (hs (.isRef (.static "jdk/internal/util/Preconditions" "SIOOBE_FORMATTER" "Ljava/util/function/BiFunction;")) (by decide +kernel)) hA with h | ⟨t, h⟩
    · exact ⟨0, 0, h⟩
    · exact ⟨t, 1, h⟩
  obtain ⟨f3, f4, Z5⟩ := Z5
  obtain ⟨mi, hmi⟩ := va_Mi.of (C := "[Ljava/lang/Object;") (hs (.isRef (.mirror "[Ljava/lang/Object;")) (by decide +kernel))
  have hnc : va_Nc "java/lang/IllegalStateException" "java/lang/IllegalArgumentException" s := va_Nc.of (hs (.not (.castable "java/lang/IllegalStateException" "java/lang/IllegalArgumentException")) (by decide +kernel))
  obtain ⟨a10, v10, E10, X10, Y10⟩ := s_str10 hK hs
  obtain ⟨a11, v11, E11, X11, Y11⟩ := s_str11 hK hs
  obtain ⟨a12, v12, E12, X12, Y12⟩ := s_str12 hK hs
  obtain ⟨a13, v13, E13, X13, Y13⟩ := s_str13 hK hs
  obtain ⟨a14, v14, E14, X14, Y14⟩ := s_str14 hK hs
  obtain ⟨a15, v15, E15, X15, Y15⟩ := s_str15 hK hs
  obtain ⟨a16, v16, E16, X16, Y16⟩ := s_str16 hK hs
  obtain ⟨a17, v17, E17, X17, Y17⟩ := s_str17 hK hs
  obtain ⟨a18, v18, E18, X18, Y18⟩ := s_str18 hK hs
  obtain ⟨a19, v19, E19, X19, Y19⟩ := s_str19 hK hs
  obtain ⟨a20, v20, E20, X20, Y20⟩ := s_str20 hK hs
  have F27 := s_eqT (hs (.eq (.string "PageServer$Table" 27) (.string "PageServer" 261)) (by decide +kernel)) E10
  have F29 := s_eqT (hs (.eq (.string "PageServer$Table" 29) (.string "PageServer" 291)) (by decide +kernel)) E11
  have F38 := s_eqT (hs (.eq (.string "PageServer$Table" 38) (.string "PageServer" 289)) (by decide +kernel)) E12
  have F40 := s_eqT (hs (.eq (.string "PageServer$Table" 40) (.string "PageServer" 266)) (by decide +kernel)) E13
  have F46 := s_eqT (hs (.eq (.string "PageServer$Table" 46) (.string "PageServer$Reader" 65)) (by decide +kernel)) E16
  have F48 := s_eqT (hs (.eq (.string "PageServer$Table" 48) (.string "PageServer" 272)) (by decide +kernel)) E17
  obtain ⟨gp, g0, g1, g2, g3, g4, g10, g11, g12, g13, g14, g15, g16, g17, g18, g19, g20⟩ : ∃ gp : Nat → Nat, gp 0 = p0 ∧ gp 1 = p1 ∧ gp 2 = mi ∧ gp 3 = f3 ∧ gp 4 = f4 ∧ gp 10 = a10 ∧ gp 11 = a11 ∧ gp 12 = a12 ∧ gp 13 = a13 ∧ gp 14 = a14 ∧ gp 15 = a15 ∧ gp 16 = a16 ∧ gp 17 = a17 ∧ gp 18 = a18 ∧ gp 19 = a19 ∧ gp 20 = a20 := ⟨fun k => if k = 0 then p0 else if k = 1 then p1 else if k = 2 then mi else if k = 3 then f3 else if k = 4 then f4 else if k = 10 then a10 else if k = 11 then a11 else if k = 12 then a12 else if k = 13 then a13 else if k = 14 then a14 else if k = 15 then a15 else if k = 16 then a16 else if k = 17 then a17 else if k = 18 then a18 else if k = 19 then a19 else if k = 20 then a20 else 0, by simp, by simp, by simp, by simp, by simp, by simp, by simp, by simp, by simp, by simp, by simp, by simp, by simp, by simp, by simp, by simp⟩
  refine ⟨D, gp, ⟨hK, s_wd hts, ⟨by rw [g0]; exact Z0, by rw [g1]; exact Z1, Z2, Z3, Z4, by unfold x_fm; rw [g3, g4]; exact Z5⟩, fun q hq => ?_, by rw [g2]; exact hmi, hnc⟩, ?_⟩
  · simp only [x_strs, List.mem_cons, List.not_mem_nil, or_false] at hq
    rcases hq with rfl | rfl | rfl | rfl | rfl | rfl | rfl | rfl | rfl | rfl | rfl | rfl | rfl | rfl | rfl | rfl | rfl
    · show vk_R "PageServer" 261 ":m" (gp 10) s
      rw [g10]; exact vk_R.of (hts (.stringRef "PageServer" 261 ":m") (by decide +kernel)) E10
    · show vk_R "PageServer$Table" 27 ":m" (gp 10) s
      rw [g10]; exact vk_R.of (hts (.stringRef "PageServer$Table" 27 ":m") (by decide +kernel)) F27
    · show vk_R "PageServer" 291 "GET" (gp 11) s
      rw [g11]; exact vk_R.of (hts (.stringRef "PageServer" 291 "GET") (by decide +kernel)) E11
    · show vk_R "PageServer$Table" 29 "GET" (gp 11) s
      rw [g11]; exact vk_R.of (hts (.stringRef "PageServer$Table" 29 "GET") (by decide +kernel)) F29
    · show vk_R "PageServer" 289 "HEAD" (gp 12) s
      rw [g12]; exact vk_R.of (hts (.stringRef "PageServer" 289 "HEAD") (by decide +kernel)) E12
    · show vk_R "PageServer$Table" 38 "HEAD" (gp 12) s
      rw [g12]; exact vk_R.of (hts (.stringRef "PageServer$Table" 38 "HEAD") (by decide +kernel)) F38
    · show vk_R "PageServer" 266 ":p" (gp 13) s
      rw [g13]; exact vk_R.of (hts (.stringRef "PageServer" 266 ":p") (by decide +kernel)) E13
    · show vk_R "PageServer$Table" 40 ":p" (gp 13) s
      rw [g13]; exact vk_R.of (hts (.stringRef "PageServer$Table" 40 ":p") (by decide +kernel)) F40
    · show vk_R "PageServer$Table" 42 "/" (gp 14) s
      rw [g14]; exact vk_R.of (hts (.stringRef "PageServer$Table" 42 "/") (by decide +kernel)) E14
    · show vk_R "PageServer$Table" 44 "host" (gp 15) s
      rw [g15]; exact vk_R.of (hts (.stringRef "PageServer$Table" 44 "host") (by decide +kernel)) E15
    · show vk_R "PageServer$Table" 46 "" (gp 16) s
      rw [g16]; exact vk_R.of (hts (.stringRef "PageServer$Table" 46 "") (by decide +kernel)) F46
    · show vk_R "PageServer$Reader" 65 "" (gp 16) s
      rw [g16]; exact vk_R.of (hts (.stringRef "PageServer$Reader" 65 "") (by decide +kernel)) E16
    · show vk_R "PageServer" 272 "length" (gp 17) s
      rw [g17]; exact vk_R.of (hts (.stringRef "PageServer" 272 "length") (by decide +kernel)) E17
    · show vk_R "PageServer$Table" 48 "length" (gp 17) s
      rw [g17]; exact vk_R.of (hts (.stringRef "PageServer$Table" 48 "length") (by decide +kernel)) F48
    · show vk_R "PageServer$Table" 50 ":s" (gp 18) s
      rw [g18]; exact vk_R.of (hts (.stringRef "PageServer$Table" 50 ":s") (by decide +kernel)) E18
    · show vk_R "PageServer$Table" 52 "200" (gp 19) s
      rw [g19]; exact vk_R.of (hts (.stringRef "PageServer$Table" 52 "200") (by decide +kernel)) E19
    · show vk_R "PageServer$Table" 54 "404" (gp 20) s
      rw [g20]; exact vk_R.of (hts (.stringRef "PageServer$Table" 54 "404") (by decide +kernel)) E20
  · have R0 : x_rd D s p0 (oarr 0 (fun _ => none)) s.heap := by
      obtain ⟨cell, h1, h2, h3, h4, h5, h6, -⟩ := T0
      exact ⟨cell, h1, h2, h3, h4, h5, fun j hj => absurd hj (Nat.not_lt_zero j)⟩
    have H1 := s_h_eq hK (Or.inr (Or.inl ⟨.int, 4, _, rfl, Or.inl rfl, by decide, fun j hj => by simp [List.getD, List.getElem?_eq_none (show ([80, 82, 73, 10] : List Int32).length ≤ j from hj)]⟩)) (s_rdT T1)
    refine ⟨fun q t e hq => (s_h_of hq).1, ⟨_, by rw [g0]; exact s_h_eq hK (Or.inr (Or.inr rfl)) R0⟩, ⟨_, by rw [g1]; exact H1, rfl, rfl, rfl, rfl⟩, by rw [g10]; exact s_Astr hK _ (by decide) X10 Y10, by rw [g11]; exact s_Astr hK _ (by decide) X11 Y11, by rw [g12]; exact s_Astr hK _ (by decide) X12 Y12, by rw [g13]; exact s_Astr hK _ (by decide) X13 Y13, by rw [g14]; exact s_Astr hK _ (by decide) X14 Y14, by rw [g15]; exact s_Astr hK _ (by decide) X15 Y15, by rw [g16]; exact s_Astr hK _ (by decide) X16 Y16, by rw [g17]; exact s_Astr hK _ (by decide) X17 Y17, by rw [g18]; exact s_Astr hK _ (by decide) X18 Y18, by rw [g19]; exact s_Astr hK _ (by decide) X19 Y19, by rw [g20]; exact s_Astr hK _ (by decide) X20 Y20⟩
