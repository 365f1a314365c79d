/-! the start of the law: what holds there, out of the Statement's words -/
set_option maxRecDepth 100000
theorem s_K {s : State} {A : Array Value} (hts : ∀ w ∈ lw_tbl, w.before A s = true) : ∃ D : va_G, x_K D s := by
  have ha : ∀ w ∈ lw_all, w.before A s = true := fun w h => hts w (List.mem_filter.mp h).1
  have key : ∀ c : Nat, ∃ p : ClassId × (Nat → Nat), ∀ q : vw_C, x_cl[c]? = some q → u_Kn s q.1 q.2.1 q.2.2 p.1 p.2 := by
    intro c
    have k1 : ∀ (Cn : String) (T : u_T) (N : Nat), (∃ (cC : ClassId) (iS : Nat → Nat), u_Kn s Cn T N cC iS) → x_cl[c]? = some (Cn, T, N) → ∃ p : ClassId × (Nat → Nat), ∀ q : vw_C, x_cl[c]? = some q → u_Kn s q.1 q.2.1 q.2.2 p.1 p.2 := by
      intro Cn T N ⟨cC, iS, h⟩ hc
      refine ⟨(cC, iS), fun q hq => ?_⟩
      cases Option.some.inj (hc.symm.trans hq)
      exact h
    match c with
    | 0 => exact k1 RX1 TX1 27 (u_known (n := 27) ha in_X1 (hts _ (List.mem_filter.mp q116).1)) rfl
    | 1 => exact k1 RX2 TX2 3 (u_known (n := 3) ha in_X2 (hts _ (List.mem_filter.mp q150).1)) rfl
    | 2 => exact k1 RX3 TX3 2 (u_known (n := 2) ha in_X3 (hts _ (List.mem_filter.mp q158).1)) rfl
    | 3 => exact k1 RX4 TX4 5 (u_known (n := 5) ha in_X4 (hts _ (List.mem_filter.mp q258).1)) rfl
    | 4 => exact k1 RX5 TX5 9 (u_known (n := 9) ha in_X5 (hts _ (List.mem_filter.mp q314).1)) rfl
    | 5 => exact k1 RX6 TX6 55 (u_known (n := 55) ha in_X6 (hts _ (List.mem_filter.mp q1158).1)) rfl
    | 6 => exact k1 RX7 TX7 3 (u_known (n := 3) ha in_X7 (hts _ (List.mem_filter.mp q1101).1)) rfl
    | 7 => exact k1 RJ2 TJ2 3 (u_known (n := 3) ha in_J2 (hts _ (List.mem_filter.mp q124).1)) rfl
    | 8 => exact k1 RJ8 TJ8 4 (u_known (n := 4) ha in_J8 (hts _ (List.mem_filter.mp q264).1)) rfl
    | 9 => exact k1 RJ9 TJ9 4 (u_known (n := 4) ha in_J9 (hts _ (List.mem_filter.mp q856).1)) rfl
    | n + 10 => exact ⟨(0, fun _ => 0), fun q hq => by simp at hq⟩
  obtain ⟨f, hf⟩ := Classical.axiomOfChoice key
  exact ⟨(fun c => (f c).1, fun c => (f c).2), fun c q hq => hf c q hq⟩
theorem s_wd {s : State} {A : Array Value} (hts : ∀ w ∈ lw_tbl, w.before A s = true) : x_wd s := by
  intro w hw hn
  have h1 := hts w hw
  match w, hn, h1 with
  | .fieldLinkNest _ _ _ _ _ _, _, h1 => exact va_Nw.of rfl h1
  | .methodLinkNest _ _ _ _, _, h1 => exact va_Nw.of rfl h1
  | .castable _ _, _, h1 => exact va_Nw.of rfl h1
  | .declares _, _, h1 => exact va_Nw.of rfl h1
  | .privateMethod x, _, h1 => exact va_Nw.of rfl h1
  | .arrayOver (.object _), _, h1 => exact va_AO.use (A := #[]) (va_AO.of h1)
