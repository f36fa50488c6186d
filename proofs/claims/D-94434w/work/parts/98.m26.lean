set_option maxRecDepth 100000
/-! THE REFERENCE: tokens -/
/-- the tokens from a place on -/
def TkA (t : List Nat) (e : Nat) (l : List Tk) : Prop := e ≤ t.length ∧ ∃ f, t.length - e < f ∧ l = tks f e (t.drop e)
/-- the reference's token is the first of a list, the others follow -/
def MTk (σ : MS) (t : List Nat) (l : List Tk) : Prop := ∃ k l', l = k :: l' ∧ kS k ≤ 5 ∧ mI σ 8 = n32 (kS k) ∧ mI σ 6 = n32 (kP k) ∧ kP k ≤ t.length ∧ (2 ≤ kS k ∧ kS k ≤ 3 → mL σ 10 0 = e64 (kV k) ∧ kV k < 9223372036854775808) ∧ (kS k = 4 → mI σ 9 = n32 (kV k) ∧ kV k ≤ 9999) ∧ (kS k = 5 → t[kP k]? = some (kV k)) ∧ (2 ≤ kS k → ∃ e, mI σ 7 = n32 e ∧ TkA t e l')
theorem MTk.fr {is as ls : List Nat} {σ τ : MS} {t : List Nat} {l : List Tk} (h : MTk σ t l) (f : Fr is as ls σ τ) (h1 : 6 ∉ is ∧ 7 ∉ is ∧ 8 ∉ is ∧ 9 ∉ is) (h2 : 10 ∉ ls) : MTk τ t l := by
  obtain ⟨k, l', a1, a2, a3, a4, a5, a6, a7, a8, a9⟩ := h
  refine ⟨k, l', a1, a2, by rw [f.1 8 h1.2.2.1]; exact a3, by rw [f.1 6 h1.1]; exact a4, a5, fun z => by rw [f.2.2 10 h2]; exact a6 z, fun z => by rw [f.1 9 h1.2.2.2]; exact a7 z, a8, fun z => ?_⟩
  obtain ⟨e, b1, b2⟩ := a9 z
  exact ⟨e, by rw [f.1 7 h1.2.1]; exact b1, b2⟩
def goQ (σ : MS) (t : List Nat) (k : Tk) (n : Nat) (o : Option MS) : Prop := ∃ τ, o = some τ ∧ Fr [6, 7, 8, 9] [] [10] σ τ ∧ mI τ 8 = n32 (kS k) ∧ mI τ 6 = n32 (kP k) ∧ (2 ≤ kS k ∧ kS k ≤ 3 → mL τ 10 0 = e64 (kV k) ∧ kV k < 9223372036854775808) ∧ (kS k = 4 → mI τ 9 = n32 (kV k) ∧ kV k ≤ 9999) ∧ (kS k = 5 → t[kP k]? = some (kV k)) ∧ (2 ≤ kS k → mI τ 7 = n32 (kP k + n))
theorem goQ.from {σ τ : MS} {t : List Nat} {k : Tk} {n : Nat} {o : Option MS} (h : goQ τ t k n o) (f : Fr [6, 7, 8, 9] [] [10] σ τ) : goQ σ t k n o := by
  obtain ⟨υ, e, f2, g⟩ := h
  exact ⟨υ, e, Fr.tr f f2 (by simp) (by simp) (by simp), g⟩
abbrev zwI (σ : MS) (k : Nat) (v : Int32) : MS := wI σ k v
abbrev zwA (σ : MS) (k i : Nat) (v : Int32) : MS := wA σ k i v
abbrev zwL (σ : MS) (k i : Nat) (v : Int64) : MS := wL σ k i v
theorem Fr.w1 {is as ls : List Nat} {σ τ : MS} (h : Fr is as ls σ τ) (k : Nat) (v : Int32) (hk : k ∈ is) : Fr is as ls σ (zwI τ k v) := Fr.tr h (Fr.wI τ k v) (by intro j hj; rcases List.mem_append.mp hj with z | z; exact z; rw [List.mem_singleton.mp z]; exact hk) (by simp) (by simp)
theorem Fr.wL1 {is as ls : List Nat} {σ τ : MS} (h : Fr is as ls σ τ) (k i : Nat) (v : Int64) (hk : k ∈ ls) : Fr is as ls σ (zwL τ k i v) := by
  unfold zwL
  rw [wL_s]
  exact Fr.tr h (Fr.sL τ k _) (by simp) (by simp) (by intro j hj; rcases List.mem_append.mp hj with z | z; exact z; rw [List.mem_singleton.mp z]; exact hk)
theorem Fr.wA1 {is as ls : List Nat} {σ τ : MS} (h : Fr is as ls σ τ) (k i : Nat) (v : Int32) (hk : k ∈ as) : Fr is as ls σ (zwA τ k i v) := by
  unfold zwA
  rw [wA_s]
  exact Fr.tr h (Fr.sA τ k _) (by simp) (by intro j hj; rcases List.mem_append.mp hj with z | z; exact z; rw [List.mem_singleton.mp z]; exact hk) (by simp)
theorem Fr.any {is as ls : List Nat} {σ : MS} : Fr is as ls σ σ := Fr.mono Fr.rf (by simp) (by simp) (by simp)
theorem isL_lt {c : Nat} (h : isL c = true) : 97 ≤ c ∧ c ≤ 122 := by simpa [isL] using h
theorem isDg_lt {c : Nat} (h : isDg c = true) : 48 ≤ c ∧ c ≤ 57 := by simpa [isDg] using h
theorem wL_at (σ : MS) (k i : Nat) (v : Int64) : mL (wL σ k i v) k i = v := by rw [wL_s, sL_same]; unfold up0; rw [ifp rfl]
/-- a word -/
theorem word_L {σ : MS} {t : List Nat} {p c : Nat} (hT : MTx σ t) (hc : t[p]? = some c) (hL : isL c = true) (h6 : mI σ 6 = n32 p) (h7 : mI σ 7 = n32 (p + 1)) : goQ σ t (lex1 p (t.drop p)) (lexN (t.drop p)) (F_goOn_L119 MN σ) := by
  have hMN := MN_gt
  have hlen := hT.2.1
  have hp : p < t.length := (List.getElem?_eq_some_iff.mp hc).1
  obtain ⟨w, hw⟩ : ∃ w, w = (t.drop p).takeWhile isL := ⟨_, rfl⟩
  have hn1 : 1 ≤ w.length := by rw [hw, drop_cons hc]; simp [hL]
  have hn2 : w.length ≤ t.length - p := by rw [hw]; exact tw_le _ _ _
  have hwl : ∀ x ∈ w, x < 128 := fun x hx => by
    rw [hw] at hx
    have := isL_lt (tw_mem hx); omega
  have hget : ∀ j, j < w.length → ∃ x, t[p + j]? = some x ∧ isL x = true ∧ w[j]? = some x := fun j hj => by
    rw [hw] at hj ⊢; exact tw_in isL t p j hj
  have hgd : ∀ j x, t[j]? = some x → t.getD j 0 = x := fun j x h => by rw [List.getD_eq_getElem?_getD, h]; rfl
  have hlx : lex1 p (t.drop p) = if 8 < w.length then (1, p, 0) else (if pck w ∈ kept then 3 else 2, p, pck w) := by rw [hw, drop_cons hc]; unfold lex1; simp only [hL, if_true]
  have hln : lexN (t.drop p) = w.length := by rw [hw, drop_cons hc]; unfold lexN; simp only [hL, if_true]
  rw [hln]
  obtain ⟨fu, s, ⟨i1, i2⟩, e⟩ := upe (fun fu k s => F_goOn_L119 fu s) (p + 1) (p + w.length) (fun k s => Fr [6, 7, 8, 9] [] [10] σ s ∧ mI s 6 = n32 p ∧ mI s 7 = n32 k)
    (by
      rintro fu k s hk1 hk2 ⟨f1, f6, f7⟩
      obtain ⟨x, hx1, hx2, -⟩ := hget (k - p) (by omega)
      rw [show p + (k - p) = k from by omega] at hx1
      have hTs := hT.fr f1 (by simp) (by simp)
      refine ⟨wI s 7 (n32 (k + 1)), ?_, f1.w1 7 _ (by simp), by rw [wI_ne _ _ _ _ (by omega)]; exact f6, wI_same _ _ _⟩
      try dsimp only
      have hx3 := isL_lt hx2
      rw [F_goOn_L119, f7, sign_L hTs (by omega), bd_y, hgd k x hx1, isL_L (by omega), bd_y, ifp hx2, ifn (by decide), lt_y, show (1 : Int32) = n32 1 from rfl, n32_add])
    σ MN (by omega) (by omega) ⟨Fr.any, h6, h7⟩
  obtain ⟨i6, i7⟩ := i2
  have e' : F_goOn_L119 MN σ = F_goOn_L119 (fu + 1) s := e
  rw [e']
  refine goQ.from ?_ i1
  have hTs := hT.fr i1 (by simp) (by simp)
  have hend : isL (t.getD (p + w.length) 0) = false := by
    by_cases q : p + w.length < t.length
    · have h1 : t[p + w.length]? = some (t.getD (p + w.length) 0) := by rw [List.getD_eq_getElem?_getD, List.getElem?_eq_getElem q]; rfl
      rw [hw] at h1 ⊢
      exact tw_out isL t p _ h1
    · rw [List.getD_eq_getElem?_getD, List.getElem?_eq_none (by omega)]; rfl
  rw [F_goOn_L119, i7, sign_L hTs (by omega), bd_y, isL_L (hTs.lt _), bd_y, hend, ifp (by decide)]
  unfold F_goOn_b146
  simp only [↓lt_y]
  have f0 : Fr [6, 7, 8, 9] [] [10] s (wL s 10 0 0) := Fr.any.wL1 10 0 0 (by simp)
  have e6 : mI (wL s 10 0 0) 6 = n32 p := i6
  have e7 : mI (wL s 10 0 0) 7 = n32 (p + w.length) := i7
  have e10 : mL (wL s 10 0 0) 10 0 = e64 (pck (w.take 0)) := by rw [wL_at]; rfl
  refine goQ.from ?_ f0
  rw [e6]
  have hTs0 := hTs.fr f0 (by simp) (by simp)
  generalize wL s 10 0 0 = s0 at e6 e7 e10 hTs0
  obtain ⟨fu2, s2, ⟨j1, j6, j7, j10⟩, e2⟩ := upe (fun fu k s => F_goOn_L156 fu (n32 k) s) p (p + min w.length 8) (fun k s => Fr [6, 7, 8, 9] [] [10] s0 s ∧ mI s 6 = n32 p ∧ mI s 7 = n32 (p + w.length) ∧ mL s 10 0 = e64 (pck (w.take (k - p))))
    (by
      rintro fu k s hk1 hk2 ⟨f1, f6, f7, f10⟩
      obtain ⟨x, hx1, hx2, hx4⟩ := hget (k - p) (by omega)
      rw [show p + (k - p) = k from by omega] at hx1
      have hTs := hTs0.fr f1 (by simp) (by simp)
      refine ⟨wL s 10 0 (e64 (pck (w.take (k + 1 - p)))), ?_, f1.wL1 10 _ _ (by simp), f6, f7, wL_at _ _ _ _⟩
      try dsimp only
      have hx3 := isL_lt hx2
      rw [F_goOn_L156, f7, f6, show (8 : Int32) = n32 8 from rfl, n32_add, ifn (by rw [n32_le ⟨by omega, by omega⟩]; omega), ifn (by rw [n32_le ⟨by omega, by omega⟩]; omega), sign_L hTs (by omega), bd_y, hgd k x hx1, f10]
      simp only [↓lt_y]
      rw [show n32 8 = (8 : Int32) from rfl, e64_shl (by omega), show (1 : Int32) = n32 1 from rfl, n32_add, show k + 1 - p = (k - p) + 1 from by omega, take_snoc hx4, pck_snoc])
    s0 MN (by omega) (by omega) ⟨Fr.any, e6, e7, by rw [Nat.sub_self]; exact e10⟩
  have e2' : F_goOn_L156 MN (n32 p) s0 = F_goOn_L156 (fu2 + 1) (n32 (p + min w.length 8)) s2 := e2
  rw [e2']
  refine goQ.from ?_ j1
  have hb : F_goOn_L156 (fu2 + 1) (n32 (p + min w.length 8)) s2 = F_goOn_b199 s2 := by
    rw [F_goOn_L156, j7, j6, show (8 : Int32) = n32 8 from rfl, n32_add]
    by_cases q : w.length ≤ 8
    · rw [ifp (by rw [n32_le ⟨by omega, by omega⟩]; omega)]
    · rw [ifn (by rw [n32_le ⟨by omega, by omega⟩]; omega), ifp (by rw [n32_le ⟨by omega, by omega⟩]; omega)]
  rw [hb]
  unfold F_goOn_b199 F_goOn_b233
  rw [j7, j6, n32_sub (by omega), show (8 : Int32) = n32 8 from rfl, show p + w.length - p = w.length from by omega]
  by_cases q : w.length ≤ 8
  · rw [ifp ((n32_le ⟨by omega, by omega⟩).mpr q), j10, show p + min w.length 8 - p = w.length from by omega, List.take_length]
    have hv := pck_lt hwl q
    rw [isKept_L hv, bd_y]
    have m10 : mL s2 10 0 = e64 (pck w) := by rw [j10, show p + min w.length 8 - p = w.length from by omega, List.take_length]
    by_cases qk : pck w ∈ kept
    · rw [ifp qk, ifn (by decide), lt_y, hlx, ifn (by omega), ifp qk]
      exact ⟨_, rfl, Fr.any.w1 8 _ (by simp), by rw [wI_same]; rfl, by rw [wI_ne _ _ _ _ (by omega)]; exact j6, fun _ => ⟨m10, hv⟩, (fun z => by cases z), (fun z => by cases z), fun _ => by rw [wI_ne _ _ _ _ (by omega)]; exact j7⟩
    · rw [ifn qk, ifp (by decide), lt_y, hlx, ifn (by omega), ifn qk]
      exact ⟨_, rfl, Fr.any.w1 8 _ (by simp), by rw [wI_same]; rfl, by rw [wI_ne _ _ _ _ (by omega)]; exact j6, fun _ => ⟨m10, hv⟩, (fun z => by cases z), (fun z => by cases z), fun _ => by rw [wI_ne _ _ _ _ (by omega)]; exact j7⟩
  · rw [ifn (fun z => q ((n32_le ⟨by omega, by omega⟩).mp z)), lt_y, hlx, ifp (by omega)]
    exact ⟨_, rfl, Fr.any.w1 8 _ (by simp), by rw [wI_same]; rfl, by rw [wI_ne _ _ _ _ (by omega)]; exact j6, (fun z => by have := z.1; simp [kS] at this), (fun z => by cases z), (fun z => by cases z), (fun z => by simp [kS] at z)⟩
/-- a number -/
theorem numb_L {σ : MS} {t : List Nat} {p c : Nat} (hT : MTx σ t) (hc : t[p]? = some c) (hL : isL c = false) (hD : isDg c = true) (h6 : mI σ 6 = n32 p) (h7 : mI σ 7 = n32 p) (h9 : mI σ 9 = n32 0) : goQ σ t (lex1 p (t.drop p)) (lexN (t.drop p)) (F_goOn_L259 MN σ) := by
  have hMN := MN_gt
  have hlen := hT.2.1
  have hp : p < t.length := (List.getElem?_eq_some_iff.mp hc).1
  obtain ⟨w, hw⟩ : ∃ w, w = (t.drop p).takeWhile isDg := ⟨_, rfl⟩
  have hn1 : 1 ≤ w.length := by rw [hw, drop_cons hc]; simp [hD]
  have hn2 : w.length ≤ t.length - p := by rw [hw]; exact tw_le _ _ _
  have hwl : ∀ x ∈ w, 48 ≤ x ∧ x ≤ 57 := fun x hx => by rw [hw] at hx; exact isDg_lt (tw_mem hx)
  have hget : ∀ j, j < w.length → ∃ x, t[p + j]? = some x ∧ isDg x = true ∧ w[j]? = some x := fun j hj => by
    rw [hw] at hj ⊢; exact tw_in isDg t p j hj
  have hgd : ∀ j x, t[j]? = some x → t.getD j 0 = x := fun j x h => by rw [List.getD_eq_getElem?_getD, h]; rfl
  have hdw : (t.drop p).dropWhile isDg = t.drop (p + w.length) := by rw [dw_drop, List.drop_drop, ← hw]
  have hhd : ((t.drop p).dropWhile isDg).headD 0 = t.getD (p + w.length) 0 := by
    rw [hdw, List.headD_eq_head?_getD, List.head?_drop, List.getD_eq_getElem?_getD]
  have hlx : lex1 p (t.drop p) = if 4 < w.length ∨ isL (t.getD (p + w.length) 0) = true then (1, p, 0) else (4, p, dgv w) := by
    rw [← hhd, hw, drop_cons hc]; unfold lex1; simp only [hL, hD, if_true]; rfl
  have hln : lexN (t.drop p) = w.length := by rw [hw, drop_cons hc]; unfold lexN; simp only [hL, hD, if_true]; rfl
  rw [hln]
  obtain ⟨fu, s, ⟨i1, i6, i7, i9⟩, e⟩ := upe (fun fu k s => F_goOn_L259 fu s) p (p + w.length) (fun k s => Fr [6, 7, 8, 9] [] [10] σ s ∧ mI s 6 = n32 p ∧ mI s 7 = n32 k ∧ mI s 9 = n32 (dgv (w.take (min (k - p) 4))))
    (by
      rintro fu k s hk1 hk2 ⟨f1, f6, f7, f9⟩
      obtain ⟨x, hx1, hx2, hx4⟩ := hget (k - p) (by omega)
      rw [show p + (k - p) = k from by omega] at hx1
      have hTs := hT.fr f1 (by simp) (by simp)
      have hx3 := isDg_lt hx2
      by_cases q : 4 ≤ k - p
      · refine ⟨wI s 7 (n32 (k + 1)), ?_, f1.w1 7 _ (by simp), by rw [wI_ne _ _ _ _ (by omega)]; exact f6, wI_same _ _ _, by rw [wI_ne _ _ _ _ (by omega), f9]; congr 3; omega⟩
        try dsimp only
        rw [F_goOn_L259, f7, f6, sign_L hTs (by omega), bd_y, hgd k x hx1, isDg_L (by omega), bd_y, ifp hx2, ifn (by decide), n32_sub (by omega), show (4 : Int32) = n32 4 from rfl, ifp ((n32_le ⟨by omega, by omega⟩).mpr q)]
        unfold F_goOn_b309
        rw [lt_y, f7, show (1 : Int32) = n32 1 from rfl, n32_add]
      · refine ⟨wI (wI s 9 (n32 (dgv (w.take (min (k + 1 - p) 4))))) 7 (n32 (k + 1)), ?_, (f1.w1 9 _ (by simp)).w1 7 _ (by simp), by rw [wI_ne _ _ _ _ (by omega), wI_ne _ _ _ _ (by omega)]; exact f6, wI_same _ _ _, by rw [wI_ne _ _ _ _ (by omega), wI_same]⟩
        try dsimp only
        rw [F_goOn_L259, f7, f6, sign_L hTs (by omega), bd_y, hgd k x hx1, isDg_L (by omega), bd_y, ifp hx2, ifn (by decide), n32_sub (by omega), show (4 : Int32) = n32 4 from rfl, ifn (fun z => q ((n32_le ⟨by omega, by omega⟩).mp z)), bd_y, lt_y, f9]
        unfold F_goOn_b309
        rw [lt_y, wI_ne _ _ _ _ (by omega), f7, show (1 : Int32) = n32 1 from rfl, n32_add, show (10 : Int32) = n32 10 from rfl, show (48 : Int32) = n32 48 from rfl, n32_mul, n32_add, n32_sub (by omega)]
        congr 3
        rw [show min (k + 1 - p) 4 = (k - p) + 1 from by omega, show min (k - p) 4 = k - p from by omega, take_snoc hx4, dgv_snoc]
        congr 1; omega)
    σ MN (by omega) (by omega) ⟨Fr.any, h6, h7, by rw [Nat.sub_self]; exact h9⟩
  have e' : F_goOn_L259 MN σ = F_goOn_L259 (fu + 1) s := e
  rw [e']
  refine goQ.from ?_ i1
  have hTs := hT.fr i1 (by simp) (by simp)
  have hend : isDg (t.getD (p + w.length) 0) = false := by
    by_cases q : p + w.length < t.length
    · have h1 : t[p + w.length]? = some (t.getD (p + w.length) 0) := by rw [List.getD_eq_getElem?_getD, List.getElem?_eq_getElem q]; rfl
      rw [hw] at h1 ⊢
      exact tw_out isDg t p _ h1
    · rw [List.getD_eq_getElem?_getD, List.getElem?_eq_none (by omega)]; rfl
  rw [F_goOn_L259, i7, sign_L hTs (by omega), bd_y, isDg_L (hTs.lt _), bd_y, hend, ifp (by decide)]
  unfold F_goOn_b322 F_goOn_b350 F_goOn_b355
  rw [i7, i6, n32_sub (by omega), show (4 : Int32) = n32 4 from rfl, show p + w.length - p = w.length from by omega]
  have bad : goQ s t (1, p, 0) w.length (lt (wI s 8 1) fun σ_1 => some σ_1) := by
    rw [lt_y]
    exact ⟨_, rfl, Fr.any.w1 8 _ (by simp), by rw [wI_same]; rfl, by rw [wI_ne _ _ _ _ (by omega)]; exact i6, (fun z => by have := z.1; simp [kS] at this), (fun z => by cases z), (fun z => by cases z), (fun z => by simp [kS] at z)⟩
  by_cases q : 4 < w.length
  · rw [ifp ((n32_lt ⟨by omega, by omega⟩).mpr q), hlx, ifp (Or.inl q)]
    exact bad
  · rw [ifn (fun z => q ((n32_lt ⟨by omega, by omega⟩).mp z)), sign_L hTs (by omega), bd_y, isL_L (hTs.lt _), bd_y]
    by_cases ql : isL (t.getD (p + w.length) 0) = true
    · rw [ifp ql, ifn (by decide), hlx, ifp (Or.inr ql)]
      exact bad
    · rw [ifn ql, ifp (by decide), lt_y, hlx, ifn (by rintro (z | z); exact q z; exact ql z)]
      have e9 : mI s 9 = n32 (dgv w) := by rw [i9, show min (p + w.length - p) 4 = w.length from by omega, List.take_length]
      exact ⟨_, rfl, Fr.any.w1 8 _ (by simp), by rw [wI_same]; rfl, by rw [wI_ne _ _ _ _ (by omega)]; exact i6, (fun z => by have := z.2; simp [kS] at this), fun _ => ⟨by rw [wI_ne _ _ _ _ (by omega)]; exact e9, dgv_lt hwl (by omega)⟩, (fun z => by cases z), fun _ => by rw [wI_ne _ _ _ _ (by omega)]; exact i7⟩
theorem gob58_L {σ : MS} {t : List Nat} {p : Nat} (hT : MTx σ t) (hp : p ≤ t.length) (h6 : mI σ 6 = n32 p) : goQ σ t (lex1 p (t.drop p)) (lexN (t.drop p)) (F_goOn_b58 σ) := by
  have hlen := hT.2.1
  unfold F_goOn_b58
  rw [h6, sign_L hT (by omega), bd_y, lt_y, show (1 : Int32) = n32 1 from rfl, n32_add, wI_ne _ _ _ _ (by omega), wI_ne _ _ _ _ (by omega), h6, hT.1]
  have f0 : Fr [6, 7, 8, 9] [] [10] σ (wI σ 7 (n32 (p + 1))) := Fr.any.w1 7 _ (by simp)
  refine goQ.from ?_ f0
  have e6 : mI (wI σ 7 (n32 (p + 1))) 6 = n32 p := by rw [wI_ne _ _ _ _ (by omega)]; exact h6
  have e7 : mI (wI σ 7 (n32 (p + 1))) 7 = n32 (p + 1) := wI_same _ _ _
  have hTs := hT.fr f0 (by simp) (by simp)
  generalize wI σ 7 (n32 (p + 1)) = s at e6 e7 hTs
  by_cases q : p < t.length
  · rw [ifp ((n32_lt ⟨by omega, by omega⟩).mpr q)]
    obtain ⟨c, hc⟩ : ∃ c, t[p]? = some c := ⟨_, List.getElem?_eq_getElem q⟩
    have hgd : t.getD p 0 = c := by rw [List.getD_eq_getElem?_getD, hc]; rfl
    have hc256 := hTs.lt p
    rw [hgd] at hc256 ⊢
    rw [isL_L hc256, bd_y]
    cases hL : isL c with
    | true =>
      rw [ifp rfl, ifn (by decide)]
      exact word_L hTs hc hL e6 e7
    | false =>
      rw [ifp (by decide), isDg_L hc256, bd_y]
      cases hD : isDg c with
      | true =>
        rw [ifp rfl, ifn (by decide)]
        simp only [↓lt_y]
        have f1 : Fr [6, 7, 8, 9] [] [10] s (wI (wI s 9 0) 7 (mI (wI s 9 0) 6)) := (Fr.any.w1 9 _ (by simp)).w1 7 _ (by simp)
        refine goQ.from ?_ f1
        refine numb_L (hTs.fr f1 (by simp) (by simp)) hc hL hD ?_ ?_ ?_
        · rw [wI_ne _ _ _ _ (by omega), wI_ne _ _ _ _ (by omega)]; exact e6
        · rw [wI_same, wI_ne _ _ _ _ (by omega)]; exact e6
        · rw [wI_ne _ _ _ _ (by omega), wI_same]; rfl
      | false =>
        rw [ifp (by decide), isSg_L hc256, bd_y]
        have hlx : lex1 p (t.drop p) = if isSg c = true then (5, p, c) else (1, p, 0) := by rw [drop_cons hc]; unfold lex1; simp only [hL, hD]; rfl
        have hln : lexN (t.drop p) = 1 := by rw [drop_cons hc]; unfold lexN; simp only [hL, hD]; rfl
        rw [hln]
        unfold F_goOn_b374
        cases hS : isSg c with
        | true =>
          rw [ifp rfl, ifn (by decide), lt_y, hlx, ifp hS]
          exact ⟨_, rfl, Fr.any.w1 8 _ (by simp), by rw [wI_same]; rfl, by rw [wI_ne _ _ _ _ (by omega)]; exact e6, (fun z => by have := z.2; simp [kS] at this), (fun z => by cases z), fun _ => hc, fun _ => by rw [wI_ne _ _ _ _ (by omega)]; exact e7⟩
        | false =>
          rw [ifp (by decide), lt_y, hlx, ifn (by rw [hS]; decide)]
          exact ⟨_, rfl, Fr.any.w1 8 _ (by simp), by rw [wI_same]; rfl, by rw [wI_ne _ _ _ _ (by omega)]; exact e6, (fun z => by have := z.1; simp [kS] at this), (fun z => by cases z), (fun z => by cases z), (fun z => by simp [kS] at z)⟩
  · rw [ifn (fun z => q ((n32_lt ⟨by omega, by omega⟩).mp z))]
    have ep : p = t.length := by omega
    have hlx : lex1 p (t.drop p) = (0, p, 0) := by rw [List.drop_eq_nil_of_le (by omega)]; rfl
    simp only [↓lt_y]
    rw [hlx]
    refine ⟨_, rfl, ((Fr.any.w1 8 _ (by simp)).w1 6 _ (by simp)).w1 7 _ (by simp), ?_, ?_, (fun z => by have := z.1; simp [kS] at this), (fun z => by cases z), (fun z => by cases z), (fun z => by simp [kS] at z)⟩
    · rw [wI_ne _ _ _ _ (by omega), wI_ne _ _ _ _ (by omega), wI_same]; rfl
    · rw [wI_ne _ _ _ _ (by omega), wI_same, wI_ne _ _ _ _ (by omega), hTs.1, ← ep]; rfl
theorem lex1_P (p : Nat) (u : List Nat) : kP (lex1 p u) = p ∧ kS (lex1 p u) ≤ 5 := by
  unfold lex1
  repeat' split
  all_goals exact ⟨rfl, by simp [kS]⟩
theorem lexN_le (u : List Nat) : lexN u ≤ u.length := by
  unfold lexN
  repeat' split
  · exact Nat.le_refl 0
  · exact (List.takeWhile_prefix _).length_le
  · exact (List.takeWhile_prefix _).length_le
  · simp
theorem lexN_pos (p : Nat) (u : List Nat) (h : 2 ≤ kS (lex1 p u)) : 1 ≤ lexN u := by
  cases u with
  | nil => simp [lex1, kS] at h
  | cons c u =>
    unfold lexN
    simp only
    by_cases q : isL c = true
    · rw [ifp q]; simp [q]
    · rw [ifn q]
      by_cases q2 : isDg c = true
      · rw [ifp q2]; simp [q2]
      · rw [ifn q2]; omega
theorem goOn_L {σ : MS} {t : List Nat} {e : Nat} {l : List Tk} (hT : MTx σ t) (h7 : mI σ 7 = n32 e) (hl : TkA t e l) : ∃ τ, F_goOn σ = some τ ∧ Fr [6, 7, 8, 9] [] [10] σ τ ∧ MTk τ t l := by
  have hMN := MN_gt
  have hlen := hT.2.1
  obtain ⟨he, f, hf, rfl⟩ := hl
  obtain ⟨n, hn⟩ : ∃ n, n = ((t.drop e).takeWhile isBl).length := ⟨_, rfl⟩
  have hn2 : n ≤ t.length - e := by rw [hn]; exact tw_le _ _ _
  have hgd : ∀ j x, t[j]? = some x → t.getD j 0 = x := fun j x h => by rw [List.getD_eq_getElem?_getD, h]; rfl
  unfold F_goOn
  rw [lt_y, h7]
  have f0 : Fr [6, 7, 8, 9] [] [10] σ (wI σ 6 (n32 e)) := Fr.any.w1 6 _ (by simp)
  obtain ⟨fu, s, ⟨i1, i6⟩, e1⟩ := upe (fun fu k s => F_goOn_L8 fu s) e (e + n) (fun k s => Fr [6, 7, 8, 9] [] [10] σ s ∧ mI s 6 = n32 k)
    (by
      rintro fu k s hk1 hk2 ⟨f1, f6⟩
      obtain ⟨x, hx1, hx2, -⟩ := tw_in isBl t e (k - e) (by omega)
      rw [show e + (k - e) = k from by omega] at hx1
      have hTs := hT.fr f1 (by simp) (by simp)
      refine ⟨wI s 6 (n32 (k + 1)), ?_, f1.w1 6 _ (by simp), wI_same _ _ _⟩
      try dsimp only
      have hx3 : x = 32 ∨ x = 10 := by simpa [isBl] using hx2
      rw [F_goOn_L8, hTs.1, f6, ifn (by rw [n32_le ⟨by omega, by omega⟩]; omega), sign_L hTs (by omega), bd_y, bd_y, hgd k x hx1]
      have go : F_goOn_b45 (F_goOn_L8 fu) s = F_goOn_L8 fu (wI s 6 (n32 (k + 1))) := by
        unfold F_goOn_b45
        rw [lt_y, f6, show (1 : Int32) = n32 1 from rfl, n32_add]
      rcases hx3 with rfl | rfl
      · rw [ifp (by decide), go]
      · rw [ifn (by decide), ifp (by decide), go])
    (wI σ 6 (n32 e)) MN (by omega) (by omega) ⟨f0, wI_same _ _ _⟩
  have e1' : F_goOn_L8 MN (wI σ 6 (n32 e)) = F_goOn_L8 (fu + 1) s := e1
  rw [e1']
  have hTs := hT.fr i1 (by simp) (by simp)
  have hstop : F_goOn_L8 (fu + 1) s = F_goOn_b58 s := by
    rw [F_goOn_L8, hTs.1, i6]
    by_cases q : t.length ≤ e + n
    · rw [ifp ((n32_le ⟨by omega, by omega⟩).mpr q)]
    · rw [ifn (fun z => q ((n32_le ⟨by omega, by omega⟩).mp z)), sign_L hTs (by omega), bd_y, bd_y]
      have h1 : t[e + n]? = some (t.getD (e + n) 0) := by rw [List.getD_eq_getElem?_getD, List.getElem?_eq_getElem (by omega)]; rfl
      have h2 := hTs.lt (e + n)
      have h3 : isBl (t.getD (e + n) 0) = false := by rw [hn] at h1 ⊢; exact tw_out isBl t e _ h1
      have h4 : ¬ (t.getD (e + n) 0 = 32 ∨ t.getD (e + n) 0 = 10) := by simpa [isBl] using h3
      rw [show (32 : Int32) = n32 32 from rfl, show (10 : Int32) = n32 10 from rfl, ifn (fun z => h4 (Or.inl ((n32_eq ⟨by omega, by omega⟩).mp z))), ifn (fun z => h4 (Or.inr ((n32_eq ⟨by omega, by omega⟩).mp z)))]
  rw [hstop]
  obtain ⟨τ, g0, g1, g8, g6, g10, g9, g5, g7⟩ := gob58_L hTs (p := e + n) (by omega) i6
  refine ⟨τ, g0, Fr.tr i1 g1 (by simp) (by simp) (by simp), ?_⟩
  obtain ⟨f, rfl⟩ : ∃ g, f = g + 1 := ⟨f - 1, by omega⟩
  have hd : (t.drop e).dropWhile isBl = t.drop (e + n) := by rw [dw_drop, List.drop_drop, ← hn]
  rw [tks, ← hn, hd]
  have hP := lex1_P (e + n) (t.drop (e + n))
  by_cases q : kS (lex1 (e + n) (t.drop (e + n))) ≤ 1
  · rw [ifp q]
    exact ⟨_, [], rfl, hP.2, g8, g6, by rw [hP.1]; omega, g10, g9, g5, fun z => by omega⟩
  · rw [ifn q]
    refine ⟨_, _, rfl, hP.2, g8, g6, by rw [hP.1]; omega, g10, g9, g5, fun z => ⟨_, g7 z, ?_⟩⟩
    have h1 := lexN_le (t.drop (e + n))
    have h2 := lexN_pos (e + n) (t.drop (e + n)) (by omega)
    rw [List.length_drop] at h1
    rw [hP.1]
    refine ⟨by omega, f, by omega, ?_⟩
    rw [List.drop_drop]
