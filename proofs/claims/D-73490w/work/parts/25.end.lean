/-! THE LAW'S END: what the walk's end gives of the frame -/
set_option maxRecDepth 100000
theorem frame_drop {s t : State} {o : Outcome} {L : List Loc} {mc ms k n : Nat} (h : FrameEnd s o t L mc ms) (hL : ∀ q ∈ L, s.heap.size ≤ q.base) (h1 : mc ≤ k) (h2 : ms ≤ n) : Framed s o t [] k n := by
  obtain ⟨hv, hW, e1, e2, e3, e4, e5, e6⟩ := h
  refine ⟨hv, hW, e1, e2, Nat.le_trans e3 (by omega), e4, Nat.le_trans e5 h2, fun a c hc => ?_⟩
  obtain ⟨c', q1, q2, q3, q4⟩ := e6 a c hc
  refine ⟨c', q1, q2, q3, fun i _ => q4 i fun hm => ?_⟩
  have h3 := hL _ hm
  have h4 : a < s.heap.size := (Array.getElem?_eq_some_iff.mp hc).1
  have h5 : s.heap.size ≤ a := h3
  exact absurd (Nat.lt_of_lt_of_le h4 h5) (Nat.lt_irrefl _)
