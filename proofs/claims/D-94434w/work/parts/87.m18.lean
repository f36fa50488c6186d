set_option maxRecDepth 100000
/-! THE REFERENCE's CALLS: about -/
theorem about_M {σ : MS} {S : St} (h : MR σ S) (ho : okSt S) (w : Int32) : Ok (F_about w σ) fun o => o.1 = o_about w S ∧ MR o.2 S := by
  obtain ⟨⟨b, hR⟩, hP, h54, h67, a5, a6, a7, a8, a9, -, -⟩ := id h
  have hb := hR.2.1
  have zb := n32_nat (a := b) (by omega)
  have ib : inb (mI σ 35) 2 := by rw [hR.1]; exact n32_inb (by omega)
  have e35 : (mI σ 35).toNatClampNeg = b := by rw [hR.1]; exact zb
  unfold F_about o_about
  by_cases q0 : w = 0
  · simp only [ifp q0]
    refine Ok.gd ib (Ok.done ⟨?_, h⟩)
    simp only [e35]; exact hR.2.2.1
  simp only [ifn q0]
  by_cases q1 : w = 1
  · simp only [ifp q1]
    refine Ok.gd ib (Ok.done ⟨?_, h⟩)
    simp only [e35]; exact hR.2.2.2.1.1
  simp only [ifn q1]
  by_cases q2 : w = 2
  · simp only [ifp q2]
    refine Ok.gd ib (Ok.done ⟨?_, h⟩)
    simp only [e35]; exact hR.2.2.2.2.2.1.1
  simp only [ifn q2]
  by_cases q3 : w = 3
  · simp only [ifp q3]
    refine Ok.gd ib (Ok.done ⟨?_, h⟩)
    simp only [e35]; exact hR.2.2.2.2.2.2.1.1
  simp only [ifn q3]
  by_cases q4 : w = 4
  · simp only [ifp q4]
    obtain ⟨τ, e, f, -, -, f68, -⟩ := layStart_L hR ho.2.1 h67
    refine Ok.bd e (Ok.done ⟨f68, h.fr f (by simp) (by simp) (by simp) ?_ ?_⟩)
    · obtain ⟨e, x, y⟩ := h54; exact ⟨e, x, by rw [f.1 54 (by simp)]; exact y⟩
    · obtain ⟨⟨s, x⟩, w', y, z⟩ := h67; exact ⟨⟨s, by rw [f.1 67 (by simp)]; exact x⟩, w', y, by rw [f.1 52 (by simp)]; exact z⟩
  simp only [ifn q4]
  by_cases q5 : w = 5
  · simp only [ifp q5]
    exact Ok.done ⟨a7.1, h⟩
  simp only [ifn q5]
  by_cases q6 : w = 6
  · simp only [ifp q6]
    exact Ok.done ⟨a8, h⟩
  simp only [ifn q6]
  by_cases q7 : w = 7
  · simp only [ifp q7]
    exact Ok.done ⟨a5.1, h⟩
  simp only [ifn q7]
  by_cases q8 : w = 8
  · simp only [ifp q8]
    exact Ok.done ⟨a9, h⟩
  simp only [ifn q8]
  by_cases q9 : w = 9
  · simp only [ifp q9]
    refine Ok.gd ib (Ok.done ⟨?_, h⟩)
    simp only [e35]; exact hR.2.2.2.2.2.2.2.2
  · simp only [ifn q9]
    exact Ok.done ⟨rfl, h⟩
