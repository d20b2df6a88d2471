/-! what stays under a frame -/
section
variable {X Y : Nat → Prop} {n a w m l b c t k : Nat} {f : Nat → Bool} {xs : List Nat} {σ σ2 : cm_S}
theorem isStr_fr (h : isStr σ a xs) (hf : fr X Y n σ σ2) (ha : a < cm_nx σ) (hr : cm_R σ a 0 < cm_nx σ) (xa : ¬ X a) (ya : ¬ Y a) (xr : ¬ X (cm_R σ a 0)) : isStr σ2 a xs ∧ cm_R σ2 a 0 = cm_R σ a 0 := by
  obtain ⟨h1, h2, h3, h4, h5, h6⟩ := h
  have e : cm_R σ2 a 0 = cm_R σ a 0 := congrFun (hf.R ha ya) 0
  refine ⟨⟨(hf.tg ha).trans h1, (congrFun (hf.I ha xa) 1).trans h2, by rw [e, hf.tg hr]; exact h3, by rw [e, hf.ln hr]; exact h4, h5, fun i x hx => ?_⟩, e⟩
  rw [e, hf.I hr xr]
  exact h6 i x hx
theorem bs_fr (h : bs σ a w m f) (hf : fr X Y n σ σ2) (ha : a < cm_nx σ) (hw : w < cm_nx σ) (xa : ¬ X a) (ya : ¬ Y a) (xw : ¬ X w) : bs σ2 a w m f := by
  obtain ⟨⟨t1, r1, t2, l2, a1, w1, m4⟩, u, i1, um, ut, u0, uf⟩ := h
  have eL := hf.L hw xw
  exact ⟨⟨(hf.tg ha).trans t1, (congrFun (hf.R ha ya) 0).trans r1, (hf.tg hw).trans t2, (hf.ln hw).trans l2, a1, w1, m4⟩, u, (congrFun (hf.I ha xa) 1).trans i1, um, fun z => by rw [eL]; exact ut z, fun j hj => by rw [eL]; exact u0 j hj, fun i => by rw [eL]; exact uf i⟩
theorem ls_fr (h : ls σ l b c xs) (hf : fr X Y n σ σ2) (hl : l < cm_nx σ) (hb : b < cm_nx σ) (xl : ¬ X l) (yl : ¬ Y l) (yb : ¬ Y b) : ls σ2 l b c xs := by
  obtain ⟨⟨t1, r1, t2, l2, a1, b1, c1⟩, i1, hn, hr, hz⟩ := h
  have eR := hf.R hb yb
  exact ⟨⟨(hf.tg hl).trans t1, (congrFun (hf.R hl yl) 1).trans r1, (hf.tg hb).trans t2, (hf.ln hb).trans l2, a1, b1, c1⟩, (congrFun (hf.I hl xl) 2).trans i1, hn, fun i x hx => by rw [eR]; exact hr i x hx, fun i hi => by rw [eR]; exact hz i hi⟩
theorem itr_fr (h : itr σ t l k) (hf : fr X Y n σ σ2) (ht : t < cm_nx σ) (hl : l < cm_nx σ) (xt : ¬ X t) (yt : ¬ Y t) (xl : ¬ X l) : itr σ2 t l k := by
  obtain ⟨g1, g2, g3, g4, g5⟩ := h
  exact ⟨(hf.tg ht).trans g1, (congrFun (hf.R ht yt) 3).trans g2, (congrFun (hf.I ht xt) 0).trans g3, (congrFun (hf.I ht xt) 2).trans (g4.trans (congrFun (hf.I hl xl) 0).symm), g5⟩
end
