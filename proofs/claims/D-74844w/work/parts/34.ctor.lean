/-! WHAT CONSTRUCTORS ASK (by gen/mkwp.py) -/
set_option maxRecDepth 100000
/-- SpreadsheetEngine.<init>()V : labels [251] -/
theorem k29 {d : Nat} {x0 : Nat} {σ : cm_S} {Q : cm_O → Prop} (hd : 8 ≤ d) (h0 : cm_tg σ x0 ≠ 0 ∧
∀ σ1, σ1 = cm_al σ 3 7 → 
cm_tg σ1 x0 = 1 ∧
cm_K cp ≤ x0 ∧
(∀ σ2, σ2 = cm_pR σ1 x0 0 (cm_nx σ) → 
∀ σ3, σ3 = cm_al σ2 103 (cm_ix (zi 80)) → 
cm_tg σ3 x0 = 1 ∧
(∀ σ4, σ4 = cm_pR σ3 x0 1 (cm_nx σ2) → 
∀ σ5, σ5 = cm_al σ4 4 1 → 
wp_c (d - 1) 96 [.ref (cm_nx σ4)] σ5 (qv fun σ6 => cm_tg σ6 x0 = 1 ∧
(∀ σ7, σ7 = cm_pR σ6 x0 3 (cm_nx σ4) → 
∀ σ8, σ8 = cm_al σ7 5 2 → 
wp_c (d - 1) 110 [.ref (cm_nx σ7)] σ8 (qv fun σ9 => cm_tg σ9 x0 = 1 ∧
(∀ σ10, σ10 = cm_pR σ9 x0 4 (cm_nx σ7) → 
∀ σ11, σ11 = cm_al σ10 26 3 → 
wp_c (d - 1) 477 [.ref (cm_nx σ10)] σ11 (qv fun σ12 => cm_tg σ12 x0 = 1 ∧
(∀ σ13, σ13 = cm_pR σ12 x0 5 (cm_nx σ10) → 
∀ σ14, σ14 = cm_al σ13 101 (cm_ix (zi 240)) → 
cm_tg σ14 x0 = 1 ∧
(∀ σ15, σ15 = cm_pR σ14 x0 6 (cm_nx σ13) → 
∀ σ16, σ16 = cm_al σ15 101 (cm_ix (zi 240)) → 
cm_tg σ16 x0 = 1 ∧
(∀ σ17, σ17 = cm_pR σ16 x0 7 (cm_nx σ15) → 
∀ σ18, σ18 = cm_al σ17 101 (cm_ix (zi 240)) → 
cm_tg σ18 x0 = 1 ∧
(∀ σ19, σ19 = cm_pR σ18 x0 8 (cm_nx σ17) → 
∀ σ20, σ20 = cm_al σ19 101 (cm_ix (zi 240)) → 
cm_tg σ20 x0 = 1 ∧
(∀ σ21, σ21 = cm_pR σ20 x0 9 (cm_nx σ19) → 
∀ σ22, σ22 = cm_al σ21 102 (cm_ix (zi 240)) → 
cm_tg σ22 x0 = 1 ∧
(∀ σ23, σ23 = cm_pR σ22 x0 10 (cm_nx σ21) → 
∀ σ24, σ24 = cm_al σ23 102 (cm_ix (zi 240)) → 
cm_tg σ24 x0 = 1 ∧
(∀ σ25, σ25 = cm_pR σ24 x0 11 (cm_nx σ23) → 
∀ σ26, σ26 = cm_al σ25 102 (cm_ix (zi 240)) → 
cm_tg σ26 x0 = 1 ∧
(∀ σ27, σ27 = cm_pR σ26 x0 12 (cm_nx σ25) → 
∀ σ28, σ28 = cm_al σ27 102 (cm_ix (zi 240)) → 
cm_tg σ28 x0 = 1 ∧
(∀ σ29, σ29 = cm_pR σ28 x0 13 (cm_nx σ27) → 
∀ σ30, σ30 = cm_al σ29 27 3 → 
wp_c (d - 1) 497 [.ref (cm_nx σ29)] σ30 (qv fun σ31 => cm_tg σ31 x0 = 1 ∧
(∀ σ32, σ32 = cm_pR σ31 x0 14 (cm_nx σ29) → 
∀ σ33, σ33 = cm_al σ32 27 3 → 
wp_c (d - 1) 497 [.ref (cm_nx σ32)] σ33 (qv fun σ34 => cm_tg σ34 x0 = 1 ∧
(∀ σ35, σ35 = cm_pR σ34 x0 15 (cm_nx σ32) → 
∀ σ36, σ36 = cm_pI σ35 x0 16 (zi 1) → 
∀ σ37, σ37 = cm_al σ36 106 (cm_ix (zi 240)) → 
cm_tg σ37 x0 = 1 ∧
(∀ σ38, σ38 = cm_pR σ37 x0 18 (cm_nx σ36) → 
∀ σ39, σ39 = cm_al σ38 106 (cm_ix (zi 240)) → 
cm_tg σ39 x0 = 1 ∧
(∀ σ40, σ40 = cm_pR σ39 x0 19 (cm_nx σ38) → 
∀ σ41, σ41 = cm_al σ40 7 2 → 
wp_c (d - 1) 124 [.ref (cm_nx σ40), .ref x0] σ41 (qv fun σ42 => cm_tg σ42 x0 = 1 ∧
(∀ σ43, σ43 = cm_pR σ42 x0 21 (cm_nx σ40) → 
∀ σ44, σ44 = cm_al σ43 27 3 → 
wp_c (d - 1) 499 [.ref (cm_nx σ43), .int (zi 240)] σ44 (qv fun σ45 => cm_tg σ45 x0 = 1 ∧
(∀ σ46, σ46 = cm_pR σ45 x0 22 (cm_nx σ43) → 
∀ σ47, σ47 = cm_al σ46 101 (cm_ix (zi 240)) → 
cm_tg σ47 x0 = 1 ∧
(∀ σ48, σ48 = cm_pR σ47 x0 23 (cm_nx σ46) → 
∀ σ49, σ49 = cm_al σ48 101 (cm_ix (zi 240)) → 
cm_tg σ49 x0 = 1 ∧
(∀ σ50, σ50 = cm_pR σ49 x0 24 (cm_nx σ48) → 
∀ σ51, σ51 = cm_al σ50 101 (cm_ix (zi 240)) → 
cm_tg σ51 x0 = 1 ∧
(∀ σ52, σ52 = cm_pR σ51 x0 25 (cm_nx σ50) → 
∀ σ53, σ53 = cm_al σ52 101 (cm_ix (zi 240)) → 
cm_tg σ53 x0 = 1 ∧
(∀ σ54, σ54 = cm_pR σ53 x0 26 (cm_nx σ52) → 
∀ σ55, σ55 = cm_al σ54 8 9 → 
wp_c (d - 1) 150 [.ref (cm_nx σ54), .ref x0] σ55 (qv fun σ56 => cm_tg σ56 x0 = 1 ∧
(∀ σ57, σ57 = cm_pR σ56 x0 27 (cm_nx σ54) → 
wp_r (d - 1) 29 (251, [.ref x0, .int (zi 0)], [], σ57) Q))))))))))))))))))))))))))))))))) : wp_c d 29 [.ref x0] σ Q :=
  wc_in (by omega) rfl rfl (L := [.ref x0, .null]) rfl (have hd7 : 7 ≤ d - 1 := (by omega); have hd : 1 ≤ d - 1 := (by omega); (wr_aload_n rfl rfl rfl (wr_objinit rfl hd rfl rfl h0.1 (wr_aload_n rfl rfl rfl (wr_newX rfl (by omega) rfl rfl (wr_pfR rfl rfl (by decide) (h0.2 _ rfl).1 (h0.2 _ rfl).2.1 (wr_aload_n rfl rfl rfl (wr_bipush (a := zi 80) rfl rfl rfl (wr_newarray rfl rfl (by decide) (wr_pfR rfl rfl (by decide) (((h0.2 _ rfl).2.2 _ rfl) _ rfl).1 (h0.2 _ rfl).2.1 (wr_aload_n rfl rfl rfl (wr_new rfl rfl (wr_dup rfl rfl rfl (wr_invpv rfl hd rfl (fun _ => rfl) rfl (cr_60 (tg_new _ _ _) rfl) rfl (wm_v (((((h0.2 _ rfl).2.2 _ rfl) _ rfl).2 _ rfl) _ rfl) fun σ6 h1 => (wr_pfR rfl rfl (by decide) h1.1 (h0.2 _ rfl).2.1 (wr_aload_n rfl rfl rfl (wr_new rfl rfl (wr_dup rfl rfl rfl (wr_invpv rfl hd rfl (fun _ => rfl) rfl (cr_60 (tg_new _ _ _) rfl) rfl (wm_v ((h1.2 _ rfl) _ rfl) fun σ9 h2 => (wr_pfR rfl rfl (by decide) h2.1 (h0.2 _ rfl).2.1 (wr_aload_n rfl rfl rfl (wr_new rfl rfl (wr_dup rfl rfl rfl (wr_invpv rfl hd rfl (fun _ => rfl) rfl (cr_60 (tg_new _ _ _) rfl) rfl (wm_v ((h2.2 _ rfl) _ rfl) fun σ12 h3 => (wr_pfR rfl rfl (by decide) h3.1 (h0.2 _ rfl).2.1 (wr_aload_n rfl rfl rfl (wr_sipush (a := zi 240) rfl rfl rfl (wr_newarray rfl rfl (by decide) (wr_pfR rfl rfl (by decide) ((h3.2 _ rfl) _ rfl).1 (h0.2 _ rfl).2.1 (wr_aload_n rfl rfl rfl (wr_sipush (a := zi 240) rfl rfl rfl (wr_newarray rfl rfl (by decide) (wr_pfR rfl rfl (by decide) ((((h3.2 _ rfl) _ rfl).2 _ rfl) _ rfl).1 (h0.2 _ rfl).2.1 (wr_aload_n rfl rfl rfl (wr_sipush (a := zi 240) rfl rfl rfl (wr_newarray rfl rfl (by decide) (wr_pfR rfl rfl (by decide) ((((((h3.2 _ rfl) _ rfl).2 _ rfl) _ rfl).2 _ rfl) _ rfl).1 (h0.2 _ rfl).2.1 (wr_aload_n rfl rfl rfl (wr_sipush (a := zi 240) rfl rfl rfl (wr_newarray rfl rfl (by decide) (wr_pfR rfl rfl (by decide) ((((((((h3.2 _ rfl) _ rfl).2 _ rfl) _ rfl).2 _ rfl) _ rfl).2 _ rfl) _ rfl).1 (h0.2 _ rfl).2.1 (wr_aload_n rfl rfl rfl (wr_sipush (a := zi 240) rfl rfl rfl (wr_newarray rfl rfl (by decide) (wr_pfR rfl rfl (by decide) ((((((((((h3.2 _ rfl) _ rfl).2 _ rfl) _ rfl).2 _ rfl) _ rfl).2 _ rfl) _ rfl).2 _ rfl) _ rfl).1 (h0.2 _ rfl).2.1 (wr_aload_n rfl rfl rfl (wr_sipush (a := zi 240) rfl rfl rfl (wr_newarray rfl rfl (by decide) (wr_pfR rfl rfl (by decide) ((((((((((((h3.2 _ rfl) _ rfl).2 _ rfl) _ rfl).2 _ rfl) _ rfl).2 _ rfl) _ rfl).2 _ rfl) _ rfl).2 _ rfl) _ rfl).1 (h0.2 _ rfl).2.1 (wr_aload_n rfl rfl rfl (wr_sipush (a := zi 240) rfl rfl rfl (wr_newarray rfl rfl (by decide) (wr_pfR rfl rfl (by decide) ((((((((((((((h3.2 _ rfl) _ rfl).2 _ rfl) _ rfl).2 _ rfl) _ rfl).2 _ rfl) _ rfl).2 _ rfl) _ rfl).2 _ rfl) _ rfl).2 _ rfl) _ rfl).1 (h0.2 _ rfl).2.1 (wr_aload_n rfl rfl rfl (wr_sipush (a := zi 240) rfl rfl rfl (wr_newarray rfl rfl (by decide) (wr_pfR rfl rfl (by decide) ((((((((((((((((h3.2 _ rfl) _ rfl).2 _ rfl) _ rfl).2 _ rfl) _ rfl).2 _ rfl) _ rfl).2 _ rfl) _ rfl).2 _ rfl) _ rfl).2 _ rfl) _ rfl).2 _ rfl) _ rfl).1 (h0.2 _ rfl).2.1 (wr_aload_n rfl rfl rfl (wr_new rfl rfl (wr_dup rfl rfl rfl (wr_invpv rfl hd rfl (fun _ => rfl) rfl (cr_60 (tg_new _ _ _) rfl) rfl (wm_v ((((((((((((((((((h3.2 _ rfl) _ rfl).2 _ rfl) _ rfl).2 _ rfl) _ rfl).2 _ rfl) _ rfl).2 _ rfl) _ rfl).2 _ rfl) _ rfl).2 _ rfl) _ rfl).2 _ rfl) _ rfl).2 _ rfl) _ rfl) fun σ31 h4 => (wr_pfR rfl rfl (by decide) h4.1 (h0.2 _ rfl).2.1 (wr_aload_n rfl rfl rfl (wr_new rfl rfl (wr_dup rfl rfl rfl (wr_invpv rfl hd rfl (fun _ => rfl) rfl (cr_60 (tg_new _ _ _) rfl) rfl (wm_v ((h4.2 _ rfl) _ rfl) fun σ34 h5 => (wr_pfR rfl rfl (by decide) h5.1 (h0.2 _ rfl).2.1 (wr_aload_n rfl rfl rfl (wr_iconst rfl rfl (wr_pfI rfl rfl (by decide) ⟨by decide, by decide⟩ h5.1 (h0.2 _ rfl).2.1 (by decide) (wr_aload_n rfl rfl rfl (wr_sipush (a := zi 240) rfl rfl rfl (wr_anewarray rfl rfl (by decide) (wr_pfR rfl rfl (by decide) (((h5.2 _ rfl) _ rfl) _ rfl).1 (h0.2 _ rfl).2.1 (wr_aload_n rfl rfl rfl (wr_sipush (a := zi 240) rfl rfl rfl (wr_anewarray rfl rfl (by decide) (wr_pfR rfl rfl (by decide) (((((h5.2 _ rfl) _ rfl) _ rfl).2 _ rfl) _ rfl).1 (h0.2 _ rfl).2.1 (wr_aload_n rfl rfl rfl (wr_new rfl rfl (wr_dup rfl rfl rfl (wr_aload_n rfl rfl rfl (wr_invpv rfl hd rfl (fun _ => rfl) rfl (cr_60 (tg_new _ _ _) rfl) rfl (wm_v (((((((h5.2 _ rfl) _ rfl) _ rfl).2 _ rfl) _ rfl).2 _ rfl) _ rfl) fun σ42 h6 => (wr_pfR rfl rfl (by decide) h6.1 (h0.2 _ rfl).2.1 (wr_aload_n rfl rfl rfl (wr_new rfl rfl (wr_dup rfl rfl rfl (wr_sipush (a := zi 240) rfl rfl rfl (wr_invpv rfl hd rfl (fun _ => rfl) rfl (cr_60 (tg_new _ _ _) rfl) rfl (wm_v ((h6.2 _ rfl) _ rfl) fun σ45 h7 => (wr_pfR rfl rfl (by decide) h7.1 (h0.2 _ rfl).2.1 (wr_aload_n rfl rfl rfl (wr_sipush (a := zi 240) rfl rfl rfl (wr_newarray rfl rfl (by decide) (wr_pfR rfl rfl (by decide) ((h7.2 _ rfl) _ rfl).1 (h0.2 _ rfl).2.1 (wr_aload_n rfl rfl rfl (wr_sipush (a := zi 240) rfl rfl rfl (wr_newarray rfl rfl (by decide) (wr_pfR rfl rfl (by decide) ((((h7.2 _ rfl) _ rfl).2 _ rfl) _ rfl).1 (h0.2 _ rfl).2.1 (wr_aload_n rfl rfl rfl (wr_sipush (a := zi 240) rfl rfl rfl (wr_newarray rfl rfl (by decide) (wr_pfR rfl rfl (by decide) ((((((h7.2 _ rfl) _ rfl).2 _ rfl) _ rfl).2 _ rfl) _ rfl).1 (h0.2 _ rfl).2.1 (wr_aload_n rfl rfl rfl (wr_sipush (a := zi 240) rfl rfl rfl (wr_newarray rfl rfl (by decide) (wr_pfR rfl rfl (by decide) ((((((((h7.2 _ rfl) _ rfl).2 _ rfl) _ rfl).2 _ rfl) _ rfl).2 _ rfl) _ rfl).1 (h0.2 _ rfl).2.1 (wr_aload_n rfl rfl rfl (wr_new rfl rfl (wr_dup rfl rfl rfl (wr_aload_n rfl rfl rfl (wr_invpv rfl hd rfl (fun _ => rfl) rfl (cr_60 (tg_new _ _ _) rfl) rfl (wm_v ((((((((((h7.2 _ rfl) _ rfl).2 _ rfl) _ rfl).2 _ rfl) _ rfl).2 _ rfl) _ rfl).2 _ rfl) _ rfl) fun σ56 h8 => (wr_pfR rfl rfl (by decide) h8.1 (h0.2 _ rfl).2.1 (wr_iconst rfl rfl (wr_istore_n rfl rfl rfl (L2 := [.ref x0, .int (zi 0)]) rfl (h8.2 _ rfl)))))))))))))))))))))))))))))))))))))))))))))))))))))))))))))))))))))))))))))))))))))))))))))))))))))))))))))))))))))))))))
theorem k29_251 {d : Nat} {x0 : Nat} {x1 : Int32} {σ : cm_S} {Q : cm_O → Prop} (hd : 1 ≤ d) (h0 : (x1 < (zi 240) → (cm_tg σ x0 = 1 ∧
∀ σ1, σ1 = cm_al σ 27 3 → 
wp_c d 499 [.ref (cm_nx σ), .int (zi 240)] σ1 (qv fun σ2 => 104 < cm_tg σ2 (cm_R σ x0 18) ∧
cm_in x1 (cm_ln σ2 (cm_R σ x0 18)) = true ∧
cm_K cp ≤ (cm_R σ x0 18) ∧
((cm_nx σ) = 0 ∨ cp_asg (cm_tg σ2 (cm_R σ x0 18)) (cm_tg σ2 (cm_nx σ)) = true) ∧
(∀ σ3, σ3 = cm_pR σ2 (cm_R σ x0 18) (cm_ix x1) (cm_nx σ) → 
cm_tg σ3 x0 = 1 ∧
∀ σ4, σ4 = cm_al σ3 27 3 → 
wp_c d 499 [.ref (cm_nx σ3), .int (zi 240)] σ4 (qv fun σ5 => 104 < cm_tg σ5 (cm_R σ3 x0 19) ∧
cm_in x1 (cm_ln σ5 (cm_R σ3 x0 19)) = true ∧
cm_K cp ≤ (cm_R σ3 x0 19) ∧
((cm_nx σ3) = 0 ∨ cp_asg (cm_tg σ5 (cm_R σ3 x0 19)) (cm_tg σ5 (cm_nx σ3)) = true) ∧
(∀ σ6, σ6 = cm_pR σ5 (cm_R σ3 x0 19) (cm_ix x1) (cm_nx σ3) → 
wp_r d 29 (251, [.ref x0, .int (x1 + zi 1)], [], σ6) Q)))))) ∧
(¬ x1 < (zi 240) → (Q (false, .int 0, σ)))) : wp_r d 29 (251, [.ref x0, .int x1], [], σ) Q :=
  (wr_iload_n rfl rfl rfl (wr_sipush (a := zi 240) rfl rfl rfl (wr_icmp_ge rfl rfl (cr_ii h0 (fun c1 h2 => (wr_aload_n rfl rfl rfl (wr_gfR rfl rfl (by decide) h2.1 (wr_iload_n rfl rfl rfl (wr_new rfl rfl (wr_dup rfl rfl rfl (wr_sipush (a := zi 240) rfl rfl rfl (wr_invpv rfl hd rfl (fun _ => rfl) rfl (cr_60 (tg_new _ _ _) rfl) rfl (wm_v (h2.2 _ rfl) fun σ2 h3 => (wr_aastore rfl rfl h3.1 h3.2.1 h3.2.2.1 h3.2.2.2.1 (wr_aload_n rfl rfl rfl (wr_gfR rfl rfl (by decide) (h3.2.2.2.2 _ rfl).1 (wr_iload_n rfl rfl rfl (wr_new rfl rfl (wr_dup rfl rfl rfl (wr_sipush (a := zi 240) rfl rfl rfl (wr_invpv rfl hd rfl (fun _ => rfl) rfl (cr_60 (tg_new _ _ _) rfl) rfl (wm_v ((h3.2.2.2.2 _ rfl).2 _ rfl) fun σ5 h4 => (wr_aastore rfl rfl h4.1 h4.2.1 h4.2.2.1 h4.2.2.2.1 (wr_iinc rfl rfl rfl (L2 := [.ref x0, .int (x1 + zi 1)]) rfl (wr_goto rfl (h4.2.2.2.2 _ rfl)))))))))))))))))))))) (fun c5 h6 => (wr_return rfl h6))))))
/-- SpreadsheetEngine$Finder.<init>()V : labels [] -/
theorem k96 {d : Nat} {x0 : Nat} {σ : cm_S} {Q : cm_O → Prop} (hd : 2 ≤ d) (h0 : cm_tg σ x0 ≠ 0 ∧
Q (false, .int 0, σ)) : wp_c d 96 [.ref x0] σ Q :=
  wc_in (by omega) rfl rfl (L := [.ref x0]) rfl (have hd : 1 ≤ d - 1 := (by omega); (wr_aload_n rfl rfl rfl (wr_objinit rfl hd rfl rfl h0.1 (wr_return rfl h0.2))))
/-- SpreadsheetEngine$Collector.<init>(LSpreadsheetEngine;)V : labels [] -/
theorem k124 {d : Nat} {x0 : Nat} {x1 : Nat} {σ : cm_S} {Q : cm_O → Prop} (hd : 2 ≤ d) (h0 : cm_tg σ x0 = 7 ∧
cm_K cp ≤ x0 ∧
(∀ σ1, σ1 = cm_pR σ x0 1 x1 → 
Q (false, .int 0, σ1))) : wp_c d 124 [.ref x0, .ref x1] σ Q :=
  wc_in (by omega) rfl rfl (L := [.ref x0, .ref x1]) rfl (have hd : 1 ≤ d - 1 := (by omega); (wr_aload_n rfl rfl rfl (wr_aload_n rfl rfl rfl (wr_pfR rfl rfl (by decide) h0.1 h0.2.1 (wr_aload_n rfl rfl rfl (wr_objinit rfl hd rfl rfl (cr_ne0 h0.1 rfl) (wr_return rfl (h0.2.2 _ rfl))))))))
/-- SpreadsheetEngine$Evaluator.<init>(LSpreadsheetEngine;)V : labels [] -/
theorem k150 {d : Nat} {x0 : Nat} {x1 : Nat} {σ : cm_S} {Q : cm_O → Prop} (hd : 2 ≤ d) (h0 : cm_tg σ x0 = 8 ∧
cm_K cp ≤ x0 ∧
(∀ σ1, σ1 = cm_pR σ x0 8 x1 → 
Q (false, .int 0, σ1))) : wp_c d 150 [.ref x0, .ref x1] σ Q :=
  wc_in (by omega) rfl rfl (L := [.ref x0, .ref x1]) rfl (have hd : 1 ≤ d - 1 := (by omega); (wr_aload_n rfl rfl rfl (wr_aload_n rfl rfl rfl (wr_pfR rfl rfl (by decide) h0.1 h0.2.1 (wr_aload_n rfl rfl rfl (wr_objinit rfl hd rfl rfl (cr_ne0 h0.1 rfl) (wr_return rfl (h0.2.2 _ rfl))))))))
/-- SpreadsheetEngineModel.<init>()V : labels [] -/
theorem k227 {d : Nat} {x0 : Nat} {σ : cm_S} {Q : cm_O → Prop} (hd : 2 ≤ d) (h0 : cm_tg σ x0 ≠ 0 ∧
∀ σ1, σ1 = cm_al σ 101 (cm_ix (zi 2400)) → 
cm_tg σ1 x0 = 2 ∧
cm_K cp ≤ x0 ∧
(∀ σ2, σ2 = cm_pR σ1 x0 0 (cm_nx σ) → 
∀ σ3, σ3 = cm_al σ2 102 (cm_ix (zi 2400)) → 
cm_tg σ3 x0 = 2 ∧
(∀ σ4, σ4 = cm_pR σ3 x0 1 (cm_nx σ2) → 
∀ σ5, σ5 = cm_al σ4 101 (cm_ix (zi 2400)) → 
cm_tg σ5 x0 = 2 ∧
(∀ σ6, σ6 = cm_pR σ5 x0 2 (cm_nx σ4) → 
∀ σ7, σ7 = cm_al σ6 102 (cm_ix (zi 192000)) → 
cm_tg σ7 x0 = 2 ∧
(∀ σ8, σ8 = cm_pR σ7 x0 3 (cm_nx σ6) → 
∀ σ9, σ9 = cm_al σ8 101 (cm_ix (zi 10)) → 
cm_tg σ9 x0 = 2 ∧
(∀ σ10, σ10 = cm_pR σ9 x0 4 (cm_nx σ8) → 
∀ σ11, σ11 = cm_al σ10 102 (cm_ix (zi 100)) → 
cm_tg σ11 x0 = 2 ∧
(∀ σ12, σ12 = cm_pR σ11 x0 5 (cm_nx σ10) → 
∀ σ13, σ13 = cm_al σ12 101 (cm_ix (zi 100)) → 
cm_tg σ13 x0 = 2 ∧
(∀ σ14, σ14 = cm_pR σ13 x0 6 (cm_nx σ12) → 
∀ σ15, σ15 = cm_al σ14 101 (cm_ix (zi 100)) → 
cm_tg σ15 x0 = 2 ∧
(∀ σ16, σ16 = cm_pR σ15 x0 7 (cm_nx σ14) → 
∀ σ17, σ17 = cm_al σ16 101 (cm_ix (zi 240)) → 
cm_tg σ17 x0 = 2 ∧
(∀ σ18, σ18 = cm_pR σ17 x0 9 (cm_nx σ16) → 
∀ σ19, σ19 = cm_al σ18 102 (cm_ix (zi 240)) → 
cm_tg σ19 x0 = 2 ∧
(∀ σ20, σ20 = cm_pR σ19 x0 10 (cm_nx σ18) → 
∀ σ21, σ21 = cm_al σ20 101 (cm_ix (zi 240)) → 
cm_tg σ21 x0 = 2 ∧
(∀ σ22, σ22 = cm_pR σ21 x0 11 (cm_nx σ20) → 
∀ σ23, σ23 = cm_al σ22 102 (cm_ix (zi 240)) → 
cm_tg σ23 x0 = 2 ∧
(∀ σ24, σ24 = cm_pR σ23 x0 12 (cm_nx σ22) → 
∀ σ25, σ25 = cm_al σ24 104 (cm_ix (zi 240)) → 
cm_tg σ25 x0 = 2 ∧
(∀ σ26, σ26 = cm_pR σ25 x0 13 (cm_nx σ24) → 
∀ σ27, σ27 = cm_al σ26 104 (cm_ix (zi 240)) → 
cm_tg σ27 x0 = 2 ∧
(∀ σ28, σ28 = cm_pR σ27 x0 14 (cm_nx σ26) → 
∀ σ29, σ29 = cm_pI σ28 x0 15 (zi 1) → 
∀ σ30, σ30 = cm_al σ29 101 (cm_ix (zi 80)) → 
cm_tg σ30 x0 = 2 ∧
(∀ σ31, σ31 = cm_pR σ30 x0 17 (cm_nx σ29) → 
∀ σ32, σ32 = cm_al σ31 102 (cm_ix (zi 80)) → 
cm_tg σ32 x0 = 2 ∧
(∀ σ33, σ33 = cm_pR σ32 x0 27 (cm_nx σ31) → 
∀ σ34, σ34 = cm_al σ33 109 (cm_ix (zi 9)) → 
104 < cm_tg σ34 (cm_nx σ33) ∧
cm_in (zi 0) (cm_ln σ34 (cm_nx σ33)) = true ∧
cm_K cp ≤ (cm_nx σ33) ∧
(23 = 0 ∨ cp_asg (cm_tg σ34 (cm_nx σ33)) (cm_tg σ34 23) = true) ∧
(∀ σ35, σ35 = cm_pR σ34 (cm_nx σ33) (cm_ix (zi 0)) 23 → 
104 < cm_tg σ35 (cm_nx σ33) ∧
cm_in (zi 1) (cm_ln σ35 (cm_nx σ33)) = true ∧
(24 = 0 ∨ cp_asg (cm_tg σ35 (cm_nx σ33)) (cm_tg σ35 24) = true) ∧
(∀ σ36, σ36 = cm_pR σ35 (cm_nx σ33) (cm_ix (zi 1)) 24 → 
104 < cm_tg σ36 (cm_nx σ33) ∧
cm_in (zi 2) (cm_ln σ36 (cm_nx σ33)) = true ∧
(25 = 0 ∨ cp_asg (cm_tg σ36 (cm_nx σ33)) (cm_tg σ36 25) = true) ∧
(∀ σ37, σ37 = cm_pR σ36 (cm_nx σ33) (cm_ix (zi 2)) 25 → 
104 < cm_tg σ37 (cm_nx σ33) ∧
cm_in (zi 3) (cm_ln σ37 (cm_nx σ33)) = true ∧
(26 = 0 ∨ cp_asg (cm_tg σ37 (cm_nx σ33)) (cm_tg σ37 26) = true) ∧
(∀ σ38, σ38 = cm_pR σ37 (cm_nx σ33) (cm_ix (zi 3)) 26 → 
104 < cm_tg σ38 (cm_nx σ33) ∧
cm_in (zi 4) (cm_ln σ38 (cm_nx σ33)) = true ∧
(27 = 0 ∨ cp_asg (cm_tg σ38 (cm_nx σ33)) (cm_tg σ38 27) = true) ∧
(∀ σ39, σ39 = cm_pR σ38 (cm_nx σ33) (cm_ix (zi 4)) 27 → 
104 < cm_tg σ39 (cm_nx σ33) ∧
cm_in (zi 5) (cm_ln σ39 (cm_nx σ33)) = true ∧
(28 = 0 ∨ cp_asg (cm_tg σ39 (cm_nx σ33)) (cm_tg σ39 28) = true) ∧
(∀ σ40, σ40 = cm_pR σ39 (cm_nx σ33) (cm_ix (zi 5)) 28 → 
104 < cm_tg σ40 (cm_nx σ33) ∧
cm_in (zi 6) (cm_ln σ40 (cm_nx σ33)) = true ∧
(29 = 0 ∨ cp_asg (cm_tg σ40 (cm_nx σ33)) (cm_tg σ40 29) = true) ∧
(∀ σ41, σ41 = cm_pR σ40 (cm_nx σ33) (cm_ix (zi 6)) 29 → 
104 < cm_tg σ41 (cm_nx σ33) ∧
cm_in (zi 7) (cm_ln σ41 (cm_nx σ33)) = true ∧
(30 = 0 ∨ cp_asg (cm_tg σ41 (cm_nx σ33)) (cm_tg σ41 30) = true) ∧
(∀ σ42, σ42 = cm_pR σ41 (cm_nx σ33) (cm_ix (zi 7)) 30 → 
104 < cm_tg σ42 (cm_nx σ33) ∧
cm_in (zi 8) (cm_ln σ42 (cm_nx σ33)) = true ∧
(31 = 0 ∨ cp_asg (cm_tg σ42 (cm_nx σ33)) (cm_tg σ42 31) = true) ∧
(∀ σ43, σ43 = cm_pR σ42 (cm_nx σ33) (cm_ix (zi 8)) 31 → 
cm_tg σ43 x0 = 2 ∧
(∀ σ44, σ44 = cm_pR σ43 x0 28 (cm_nx σ33) → 
∀ σ45, σ45 = cm_al σ44 102 (cm_ix (zi 960)) → 
cm_tg σ45 x0 = 2 ∧
(∀ σ46, σ46 = cm_pR σ45 x0 36 (cm_nx σ44) → 
∀ σ47, σ47 = cm_al σ46 102 (cm_ix (zi 960)) → 
cm_tg σ47 x0 = 2 ∧
(∀ σ48, σ48 = cm_pR σ47 x0 37 (cm_nx σ46) → 
∀ σ49, σ49 = cm_al σ48 102 (cm_ix (zi 4)) → 
cm_tg σ49 x0 = 2 ∧
(∀ σ50, σ50 = cm_pR σ49 x0 42 (cm_nx σ48) → 
∀ σ51, σ51 = cm_al σ50 101 (cm_ix (zi 240)) → 
cm_tg σ51 x0 = 2 ∧
(∀ σ52, σ52 = cm_pR σ51 x0 50 (cm_nx σ50) → 
∀ σ53, σ53 = cm_al σ52 102 (cm_ix (zi 240)) → 
cm_tg σ53 x0 = 2 ∧
(∀ σ54, σ54 = cm_pR σ53 x0 51 (cm_nx σ52) → 
∀ σ55, σ55 = cm_al σ54 101 (cm_ix (zi 240)) → 
cm_tg σ55 x0 = 2 ∧
(∀ σ56, σ56 = cm_pR σ55 x0 52 (cm_nx σ54) → 
∀ σ57, σ57 = cm_al σ56 102 (cm_ix (zi 240)) → 
cm_tg σ57 x0 = 2 ∧
(∀ σ58, σ58 = cm_pR σ57 x0 53 (cm_nx σ56) → 
∀ σ59, σ59 = cm_al σ58 104 (cm_ix (zi 240)) → 
cm_tg σ59 x0 = 2 ∧
(∀ σ60, σ60 = cm_pR σ59 x0 54 (cm_nx σ58) → 
∀ σ61, σ61 = cm_al σ60 104 (cm_ix (zi 240)) → 
cm_tg σ61 x0 = 2 ∧
(∀ σ62, σ62 = cm_pR σ61 x0 55 (cm_nx σ60) → 
∀ σ63, σ63 = cm_al σ62 101 (cm_ix (zi 240)) → 
cm_tg σ63 x0 = 2 ∧
(∀ σ64, σ64 = cm_pR σ63 x0 57 (cm_nx σ62) → 
∀ σ65, σ65 = cm_al σ64 102 (cm_ix (zi 240)) → 
cm_tg σ65 x0 = 2 ∧
(∀ σ66, σ66 = cm_pR σ65 x0 58 (cm_nx σ64) → 
∀ σ67, σ67 = cm_al σ66 101 (cm_ix (zi 240)) → 
cm_tg σ67 x0 = 2 ∧
(∀ σ68, σ68 = cm_pR σ67 x0 62 (cm_nx σ66) → 
∀ σ69, σ69 = cm_al σ68 101 (cm_ix (zi 240)) → 
cm_tg σ69 x0 = 2 ∧
(∀ σ70, σ70 = cm_pR σ69 x0 63 (cm_nx σ68) → 
Q (false, .int 0, σ70))))))))))))))))))))))))))))))))))))))))) : wp_c d 227 [.ref x0] σ Q :=
  wc_in (by omega) rfl rfl (L := [.ref x0]) rfl (have hd : 1 ≤ d - 1 := (by omega); (wr_aload_n rfl rfl rfl (wr_objinit rfl hd rfl rfl h0.1 (wr_aload_n rfl rfl rfl (wr_sipush (a := zi 2400) rfl rfl rfl (wr_newarray rfl rfl (by decide) (wr_pfR rfl rfl (by decide) (h0.2 _ rfl).1 (h0.2 _ rfl).2.1 (wr_aload_n rfl rfl rfl (wr_sipush (a := zi 2400) rfl rfl rfl (wr_newarray rfl rfl (by decide) (wr_pfR rfl rfl (by decide) (((h0.2 _ rfl).2.2 _ rfl) _ rfl).1 (h0.2 _ rfl).2.1 (wr_aload_n rfl rfl rfl (wr_sipush (a := zi 2400) rfl rfl rfl (wr_newarray rfl rfl (by decide) (wr_pfR rfl rfl (by decide) (((((h0.2 _ rfl).2.2 _ rfl) _ rfl).2 _ rfl) _ rfl).1 (h0.2 _ rfl).2.1 (wr_aload_n rfl rfl rfl (wr_ldc rfl (w := .int (zi 192000)) rfl rfl (wr_newarray rfl rfl (by decide) (wr_pfR rfl rfl (by decide) (((((((h0.2 _ rfl).2.2 _ rfl) _ rfl).2 _ rfl) _ rfl).2 _ rfl) _ rfl).1 (h0.2 _ rfl).2.1 (wr_aload_n rfl rfl rfl (wr_bipush (a := zi 10) rfl rfl rfl (wr_newarray rfl rfl (by decide) (wr_pfR rfl rfl (by decide) (((((((((h0.2 _ rfl).2.2 _ rfl) _ rfl).2 _ rfl) _ rfl).2 _ rfl) _ rfl).2 _ rfl) _ rfl).1 (h0.2 _ rfl).2.1 (wr_aload_n rfl rfl rfl (wr_bipush (a := zi 100) rfl rfl rfl (wr_newarray rfl rfl (by decide) (wr_pfR rfl rfl (by decide) (((((((((((h0.2 _ rfl).2.2 _ rfl) _ rfl).2 _ rfl) _ rfl).2 _ rfl) _ rfl).2 _ rfl) _ rfl).2 _ rfl) _ rfl).1 (h0.2 _ rfl).2.1 (wr_aload_n rfl rfl rfl (wr_bipush (a := zi 100) rfl rfl rfl (wr_newarray rfl rfl (by decide) (wr_pfR rfl rfl (by decide) (((((((((((((h0.2 _ rfl).2.2 _ rfl) _ rfl).2 _ rfl) _ rfl).2 _ rfl) _ rfl).2 _ rfl) _ rfl).2 _ rfl) _ rfl).2 _ rfl) _ rfl).1 (h0.2 _ rfl).2.1 (wr_aload_n rfl rfl rfl (wr_bipush (a := zi 100) rfl rfl rfl (wr_newarray rfl rfl (by decide) (wr_pfR rfl rfl (by decide) (((((((((((((((h0.2 _ rfl).2.2 _ rfl) _ rfl).2 _ rfl) _ rfl).2 _ rfl) _ rfl).2 _ rfl) _ rfl).2 _ rfl) _ rfl).2 _ rfl) _ rfl).2 _ rfl) _ rfl).1 (h0.2 _ rfl).2.1 (wr_aload_n rfl rfl rfl (wr_sipush (a := zi 240) rfl rfl rfl (wr_newarray rfl rfl (by decide) (wr_pfR rfl rfl (by decide) (((((((((((((((((h0.2 _ rfl).2.2 _ rfl) _ rfl).2 _ rfl) _ rfl).2 _ rfl) _ rfl).2 _ rfl) _ rfl).2 _ rfl) _ rfl).2 _ rfl) _ rfl).2 _ rfl) _ rfl).2 _ rfl) _ rfl).1 (h0.2 _ rfl).2.1 (wr_aload_n rfl rfl rfl (wr_sipush (a := zi 240) rfl rfl rfl (wr_newarray rfl rfl (by decide) (wr_pfR rfl rfl (by decide) (((((((((((((((((((h0.2 _ rfl).2.2 _ rfl) _ rfl).2 _ rfl) _ rfl).2 _ rfl) _ rfl).2 _ rfl) _ rfl).2 _ rfl) _ rfl).2 _ rfl) _ rfl).2 _ rfl) _ rfl).2 _ rfl) _ rfl).2 _ rfl) _ rfl).1 (h0.2 _ rfl).2.1 (wr_aload_n rfl rfl rfl (wr_sipush (a := zi 240) rfl rfl rfl (wr_newarray rfl rfl (by decide) (wr_pfR rfl rfl (by decide) (((((((((((((((((((((h0.2 _ rfl).2.2 _ rfl) _ rfl).2 _ rfl) _ rfl).2 _ rfl) _ rfl).2 _ rfl) _ rfl).2 _ rfl) _ rfl).2 _ rfl) _ rfl).2 _ rfl) _ rfl).2 _ rfl) _ rfl).2 _ rfl) _ rfl).2 _ rfl) _ rfl).1 (h0.2 _ rfl).2.1 (wr_aload_n rfl rfl rfl (wr_sipush (a := zi 240) rfl rfl rfl (wr_newarray rfl rfl (by decide) (wr_pfR rfl rfl (by decide) (((((((((((((((((((((((h0.2 _ rfl).2.2 _ rfl) _ rfl).2 _ rfl) _ rfl).2 _ rfl) _ rfl).2 _ rfl) _ rfl).2 _ rfl) _ rfl).2 _ rfl) _ rfl).2 _ rfl) _ rfl).2 _ rfl) _ rfl).2 _ rfl) _ rfl).2 _ rfl) _ rfl).2 _ rfl) _ rfl).1 (h0.2 _ rfl).2.1 (wr_aload_n rfl rfl rfl (wr_sipush (a := zi 240) rfl rfl rfl (wr_newarray rfl rfl (by decide) (wr_pfR rfl rfl (by decide) (((((((((((((((((((((((((h0.2 _ rfl).2.2 _ rfl) _ rfl).2 _ rfl) _ rfl).2 _ rfl) _ rfl).2 _ rfl) _ rfl).2 _ rfl) _ rfl).2 _ rfl) _ rfl).2 _ rfl) _ rfl).2 _ rfl) _ rfl).2 _ rfl) _ rfl).2 _ rfl) _ rfl).2 _ rfl) _ rfl).2 _ rfl) _ rfl).1 (h0.2 _ rfl).2.1 (wr_aload_n rfl rfl rfl (wr_sipush (a := zi 240) rfl rfl rfl (wr_newarray rfl rfl (by decide) (wr_pfR rfl rfl (by decide) (((((((((((((((((((((((((((h0.2 _ rfl).2.2 _ rfl) _ rfl).2 _ rfl) _ rfl).2 _ rfl) _ rfl).2 _ rfl) _ rfl).2 _ rfl) _ rfl).2 _ rfl) _ rfl).2 _ rfl) _ rfl).2 _ rfl) _ rfl).2 _ rfl) _ rfl).2 _ rfl) _ rfl).2 _ rfl) _ rfl).2 _ rfl) _ rfl).2 _ rfl) _ rfl).1 (h0.2 _ rfl).2.1 (wr_aload_n rfl rfl rfl (wr_iconst rfl rfl (wr_pfI rfl rfl (by decide) ⟨by decide, by decide⟩ (((((((((((((((((((((((((((h0.2 _ rfl).2.2 _ rfl) _ rfl).2 _ rfl) _ rfl).2 _ rfl) _ rfl).2 _ rfl) _ rfl).2 _ rfl) _ rfl).2 _ rfl) _ rfl).2 _ rfl) _ rfl).2 _ rfl) _ rfl).2 _ rfl) _ rfl).2 _ rfl) _ rfl).2 _ rfl) _ rfl).2 _ rfl) _ rfl).2 _ rfl) _ rfl).1 (h0.2 _ rfl).2.1 (by decide) (wr_aload_n rfl rfl rfl (wr_bipush (a := zi 80) rfl rfl rfl (wr_newarray rfl rfl (by decide) (wr_pfR rfl rfl (by decide) ((((((((((((((((((((((((((((((h0.2 _ rfl).2.2 _ rfl) _ rfl).2 _ rfl) _ rfl).2 _ rfl) _ rfl).2 _ rfl) _ rfl).2 _ rfl) _ rfl).2 _ rfl) _ rfl).2 _ rfl) _ rfl).2 _ rfl) _ rfl).2 _ rfl) _ rfl).2 _ rfl) _ rfl).2 _ rfl) _ rfl).2 _ rfl) _ rfl).2 _ rfl) _ rfl).2 _ rfl) _ rfl) _ rfl).1 (h0.2 _ rfl).2.1 (wr_aload_n rfl rfl rfl (wr_bipush (a := zi 80) rfl rfl rfl (wr_newarray rfl rfl (by decide) (wr_pfR rfl rfl (by decide) ((((((((((((((((((((((((((((((((h0.2 _ rfl).2.2 _ rfl) _ rfl).2 _ rfl) _ rfl).2 _ rfl) _ rfl).2 _ rfl) _ rfl).2 _ rfl) _ rfl).2 _ rfl) _ rfl).2 _ rfl) _ rfl).2 _ rfl) _ rfl).2 _ rfl) _ rfl).2 _ rfl) _ rfl).2 _ rfl) _ rfl).2 _ rfl) _ rfl).2 _ rfl) _ rfl).2 _ rfl) _ rfl) _ rfl).2 _ rfl) _ rfl).1 (h0.2 _ rfl).2.1 (wr_aload_n rfl rfl rfl (wr_bipush (a := zi 9) rfl rfl rfl (wr_anewarray rfl rfl (by decide) (wr_dup rfl rfl rfl (wr_iconst rfl rfl (wr_ldc rfl (w := .ref 23) rfl rfl (wr_aastore rfl rfl ((((((((((((((((((((((((((((((((((h0.2 _ rfl).2.2 _ rfl) _ rfl).2 _ rfl) _ rfl).2 _ rfl) _ rfl).2 _ rfl) _ rfl).2 _ rfl) _ rfl).2 _ rfl) _ rfl).2 _ rfl) _ rfl).2 _ rfl) _ rfl).2 _ rfl) _ rfl).2 _ rfl) _ rfl).2 _ rfl) _ rfl).2 _ rfl) _ rfl).2 _ rfl) _ rfl).2 _ rfl) _ rfl) _ rfl).2 _ rfl) _ rfl).2 _ rfl) _ rfl).1 ((((((((((((((((((((((((((((((((((h0.2 _ rfl).2.2 _ rfl) _ rfl).2 _ rfl) _ rfl).2 _ rfl) _ rfl).2 _ rfl) _ rfl).2 _ rfl) _ rfl).2 _ rfl) _ rfl).2 _ rfl) _ rfl).2 _ rfl) _ rfl).2 _ rfl) _ rfl).2 _ rfl) _ rfl).2 _ rfl) _ rfl).2 _ rfl) _ rfl).2 _ rfl) _ rfl).2 _ rfl) _ rfl) _ rfl).2 _ rfl) _ rfl).2 _ rfl) _ rfl).2.1 ((((((((((((((((((((((((((((((((((h0.2 _ rfl).2.2 _ rfl) _ rfl).2 _ rfl) _ rfl).2 _ rfl) _ rfl).2 _ rfl) _ rfl).2 _ rfl) _ rfl).2 _ rfl) _ rfl).2 _ rfl) _ rfl).2 _ rfl) _ rfl).2 _ rfl) _ rfl).2 _ rfl) _ rfl).2 _ rfl) _ rfl).2 _ rfl) _ rfl).2 _ rfl) _ rfl).2 _ rfl) _ rfl) _ rfl).2 _ rfl) _ rfl).2 _ rfl) _ rfl).2.2.1 ((((((((((((((((((((((((((((((((((h0.2 _ rfl).2.2 _ rfl) _ rfl).2 _ rfl) _ rfl).2 _ rfl) _ rfl).2 _ rfl) _ rfl).2 _ rfl) _ rfl).2 _ rfl) _ rfl).2 _ rfl) _ rfl).2 _ rfl) _ rfl).2 _ rfl) _ rfl).2 _ rfl) _ rfl).2 _ rfl) _ rfl).2 _ rfl) _ rfl).2 _ rfl) _ rfl).2 _ rfl) _ rfl) _ rfl).2 _ rfl) _ rfl).2 _ rfl) _ rfl).2.2.2.1 (wr_dup rfl rfl rfl (wr_iconst rfl rfl (wr_ldc rfl (w := .ref 24) rfl rfl (wr_aastore rfl rfl (((((((((((((((((((((((((((((((((((h0.2 _ rfl).2.2 _ rfl) _ rfl).2 _ rfl) _ rfl).2 _ rfl) _ rfl).2 _ rfl) _ rfl).2 _ rfl) _ rfl).2 _ rfl) _ rfl).2 _ rfl) _ rfl).2 _ rfl) _ rfl).2 _ rfl) _ rfl).2 _ rfl) _ rfl).2 _ rfl) _ rfl).2 _ rfl) _ rfl).2 _ rfl) _ rfl).2 _ rfl) _ rfl) _ rfl).2 _ rfl) _ rfl).2 _ rfl) _ rfl).2.2.2.2 _ rfl).1 (((((((((((((((((((((((((((((((((((h0.2 _ rfl).2.2 _ rfl) _ rfl).2 _ rfl) _ rfl).2 _ rfl) _ rfl).2 _ rfl) _ rfl).2 _ rfl) _ rfl).2 _ rfl) _ rfl).2 _ rfl) _ rfl).2 _ rfl) _ rfl).2 _ rfl) _ rfl).2 _ rfl) _ rfl).2 _ rfl) _ rfl).2 _ rfl) _ rfl).2 _ rfl) _ rfl).2 _ rfl) _ rfl) _ rfl).2 _ rfl) _ rfl).2 _ rfl) _ rfl).2.2.2.2 _ rfl).2.1 ((((((((((((((((((((((((((((((((((h0.2 _ rfl).2.2 _ rfl) _ rfl).2 _ rfl) _ rfl).2 _ rfl) _ rfl).2 _ rfl) _ rfl).2 _ rfl) _ rfl).2 _ rfl) _ rfl).2 _ rfl) _ rfl).2 _ rfl) _ rfl).2 _ rfl) _ rfl).2 _ rfl) _ rfl).2 _ rfl) _ rfl).2 _ rfl) _ rfl).2 _ rfl) _ rfl).2 _ rfl) _ rfl) _ rfl).2 _ rfl) _ rfl).2 _ rfl) _ rfl).2.2.1 (((((((((((((((((((((((((((((((((((h0.2 _ rfl).2.2 _ rfl) _ rfl).2 _ rfl) _ rfl).2 _ rfl) _ rfl).2 _ rfl) _ rfl).2 _ rfl) _ rfl).2 _ rfl) _ rfl).2 _ rfl) _ rfl).2 _ rfl) _ rfl).2 _ rfl) _ rfl).2 _ rfl) _ rfl).2 _ rfl) _ rfl).2 _ rfl) _ rfl).2 _ rfl) _ rfl).2 _ rfl) _ rfl) _ rfl).2 _ rfl) _ rfl).2 _ rfl) _ rfl).2.2.2.2 _ rfl).2.2.1 (wr_dup rfl rfl rfl (wr_iconst rfl rfl (wr_ldc rfl (w := .ref 25) rfl rfl (wr_aastore rfl rfl ((((((((((((((((((((((((((((((((((((h0.2 _ rfl).2.2 _ rfl) _ rfl).2 _ rfl) _ rfl).2 _ rfl) _ rfl).2 _ rfl) _ rfl).2 _ rfl) _ rfl).2 _ rfl) _ rfl).2 _ rfl) _ rfl).2 _ rfl) _ rfl).2 _ rfl) _ rfl).2 _ rfl) _ rfl).2 _ rfl) _ rfl).2 _ rfl) _ rfl).2 _ rfl) _ rfl).2 _ rfl) _ rfl) _ rfl).2 _ rfl) _ rfl).2 _ rfl) _ rfl).2.2.2.2 _ rfl).2.2.2 _ rfl).1 ((((((((((((((((((((((((((((((((((((h0.2 _ rfl).2.2 _ rfl) _ rfl).2 _ rfl) _ rfl).2 _ rfl) _ rfl).2 _ rfl) _ rfl).2 _ rfl) _ rfl).2 _ rfl) _ rfl).2 _ rfl) _ rfl).2 _ rfl) _ rfl).2 _ rfl) _ rfl).2 _ rfl) _ rfl).2 _ rfl) _ rfl).2 _ rfl) _ rfl).2 _ rfl) _ rfl).2 _ rfl) _ rfl) _ rfl).2 _ rfl) _ rfl).2 _ rfl) _ rfl).2.2.2.2 _ rfl).2.2.2 _ rfl).2.1 ((((((((((((((((((((((((((((((((((h0.2 _ rfl).2.2 _ rfl) _ rfl).2 _ rfl) _ rfl).2 _ rfl) _ rfl).2 _ rfl) _ rfl).2 _ rfl) _ rfl).2 _ rfl) _ rfl).2 _ rfl) _ rfl).2 _ rfl) _ rfl).2 _ rfl) _ rfl).2 _ rfl) _ rfl).2 _ rfl) _ rfl).2 _ rfl) _ rfl).2 _ rfl) _ rfl).2 _ rfl) _ rfl) _ rfl).2 _ rfl) _ rfl).2 _ rfl) _ rfl).2.2.1 ((((((((((((((((((((((((((((((((((((h0.2 _ rfl).2.2 _ rfl) _ rfl).2 _ rfl) _ rfl).2 _ rfl) _ rfl).2 _ rfl) _ rfl).2 _ rfl) _ rfl).2 _ rfl) _ rfl).2 _ rfl) _ rfl).2 _ rfl) _ rfl).2 _ rfl) _ rfl).2 _ rfl) _ rfl).2 _ rfl) _ rfl).2 _ rfl) _ rfl).2 _ rfl) _ rfl).2 _ rfl) _ rfl) _ rfl).2 _ rfl) _ rfl).2 _ rfl) _ rfl).2.2.2.2 _ rfl).2.2.2 _ rfl).2.2.1 (wr_dup rfl rfl rfl (wr_iconst rfl rfl (wr_ldc rfl (w := .ref 26) rfl rfl (wr_aastore rfl rfl (((((((((((((((((((((((((((((((((((((h0.2 _ rfl).2.2 _ rfl) _ rfl).2 _ rfl) _ rfl).2 _ rfl) _ rfl).2 _ rfl) _ rfl).2 _ rfl) _ rfl).2 _ rfl) _ rfl).2 _ rfl) _ rfl).2 _ rfl) _ rfl).2 _ rfl) _ rfl).2 _ rfl) _ rfl).2 _ rfl) _ rfl).2 _ rfl) _ rfl).2 _ rfl) _ rfl).2 _ rfl) _ rfl) _ rfl).2 _ rfl) _ rfl).2 _ rfl) _ rfl).2.2.2.2 _ rfl).2.2.2 _ rfl).2.2.2 _ rfl).1 (((((((((((((((((((((((((((((((((((((h0.2 _ rfl).2.2 _ rfl) _ rfl).2 _ rfl) _ rfl).2 _ rfl) _ rfl).2 _ rfl) _ rfl).2 _ rfl) _ rfl).2 _ rfl) _ rfl).2 _ rfl) _ rfl).2 _ rfl) _ rfl).2 _ rfl) _ rfl).2 _ rfl) _ rfl).2 _ rfl) _ rfl).2 _ rfl) _ rfl).2 _ rfl) _ rfl).2 _ rfl) _ rfl) _ rfl).2 _ rfl) _ rfl).2 _ rfl) _ rfl).2.2.2.2 _ rfl).2.2.2 _ rfl).2.2.2 _ rfl).2.1 ((((((((((((((((((((((((((((((((((h0.2 _ rfl).2.2 _ rfl) _ rfl).2 _ rfl) _ rfl).2 _ rfl) _ rfl).2 _ rfl) _ rfl).2 _ rfl) _ rfl).2 _ rfl) _ rfl).2 _ rfl) _ rfl).2 _ rfl) _ rfl).2 _ rfl) _ rfl).2 _ rfl) _ rfl).2 _ rfl) _ rfl).2 _ rfl) _ rfl).2 _ rfl) _ rfl).2 _ rfl) _ rfl) _ rfl).2 _ rfl) _ rfl).2 _ rfl) _ rfl).2.2.1 (((((((((((((((((((((((((((((((((((((h0.2 _ rfl).2.2 _ rfl) _ rfl).2 _ rfl) _ rfl).2 _ rfl) _ rfl).2 _ rfl) _ rfl).2 _ rfl) _ rfl).2 _ rfl) _ rfl).2 _ rfl) _ rfl).2 _ rfl) _ rfl).2 _ rfl) _ rfl).2 _ rfl) _ rfl).2 _ rfl) _ rfl).2 _ rfl) _ rfl).2 _ rfl) _ rfl).2 _ rfl) _ rfl) _ rfl).2 _ rfl) _ rfl).2 _ rfl) _ rfl).2.2.2.2 _ rfl).2.2.2 _ rfl).2.2.2 _ rfl).2.2.1 (wr_dup rfl rfl rfl (wr_iconst rfl rfl (wr_ldc rfl (w := .ref 27) rfl rfl (wr_aastore rfl rfl ((((((((((((((((((((((((((((((((((((((h0.2 _ rfl).2.2 _ rfl) _ rfl).2 _ rfl) _ rfl).2 _ rfl) _ rfl).2 _ rfl) _ rfl).2 _ rfl) _ rfl).2 _ rfl) _ rfl).2 _ rfl) _ rfl).2 _ rfl) _ rfl).2 _ rfl) _ rfl).2 _ rfl) _ rfl).2 _ rfl) _ rfl).2 _ rfl) _ rfl).2 _ rfl) _ rfl).2 _ rfl) _ rfl) _ rfl).2 _ rfl) _ rfl).2 _ rfl) _ rfl).2.2.2.2 _ rfl).2.2.2 _ rfl).2.2.2 _ rfl).2.2.2 _ rfl).1 ((((((((((((((((((((((((((((((((((((((h0.2 _ rfl).2.2 _ rfl) _ rfl).2 _ rfl) _ rfl).2 _ rfl) _ rfl).2 _ rfl) _ rfl).2 _ rfl) _ rfl).2 _ rfl) _ rfl).2 _ rfl) _ rfl).2 _ rfl) _ rfl).2 _ rfl) _ rfl).2 _ rfl) _ rfl).2 _ rfl) _ rfl).2 _ rfl) _ rfl).2 _ rfl) _ rfl).2 _ rfl) _ rfl) _ rfl).2 _ rfl) _ rfl).2 _ rfl) _ rfl).2.2.2.2 _ rfl).2.2.2 _ rfl).2.2.2 _ rfl).2.2.2 _ rfl).2.1 ((((((((((((((((((((((((((((((((((h0.2 _ rfl).2.2 _ rfl) _ rfl).2 _ rfl) _ rfl).2 _ rfl) _ rfl).2 _ rfl) _ rfl).2 _ rfl) _ rfl).2 _ rfl) _ rfl).2 _ rfl) _ rfl).2 _ rfl) _ rfl).2 _ rfl) _ rfl).2 _ rfl) _ rfl).2 _ rfl) _ rfl).2 _ rfl) _ rfl).2 _ rfl) _ rfl).2 _ rfl) _ rfl) _ rfl).2 _ rfl) _ rfl).2 _ rfl) _ rfl).2.2.1 ((((((((((((((((((((((((((((((((((((((h0.2 _ rfl).2.2 _ rfl) _ rfl).2 _ rfl) _ rfl).2 _ rfl) _ rfl).2 _ rfl) _ rfl).2 _ rfl) _ rfl).2 _ rfl) _ rfl).2 _ rfl) _ rfl).2 _ rfl) _ rfl).2 _ rfl) _ rfl).2 _ rfl) _ rfl).2 _ rfl) _ rfl).2 _ rfl) _ rfl).2 _ rfl) _ rfl).2 _ rfl) _ rfl) _ rfl).2 _ rfl) _ rfl).2 _ rfl) _ rfl).2.2.2.2 _ rfl).2.2.2 _ rfl).2.2.2 _ rfl).2.2.2 _ rfl).2.2.1 (wr_dup rfl rfl rfl (wr_iconst rfl rfl (wr_ldc rfl (w := .ref 28) rfl rfl (wr_aastore rfl rfl (((((((((((((((((((((((((((((((((((((((h0.2 _ rfl).2.2 _ rfl) _ rfl).2 _ rfl) _ rfl).2 _ rfl) _ rfl).2 _ rfl) _ rfl).2 _ rfl) _ rfl).2 _ rfl) _ rfl).2 _ rfl) _ rfl).2 _ rfl) _ rfl).2 _ rfl) _ rfl).2 _ rfl) _ rfl).2 _ rfl) _ rfl).2 _ rfl) _ rfl).2 _ rfl) _ rfl).2 _ rfl) _ rfl) _ rfl).2 _ rfl) _ rfl).2 _ rfl) _ rfl).2.2.2.2 _ rfl).2.2.2 _ rfl).2.2.2 _ rfl).2.2.2 _ rfl).2.2.2 _ rfl).1 (((((((((((((((((((((((((((((((((((((((h0.2 _ rfl).2.2 _ rfl) _ rfl).2 _ rfl) _ rfl).2 _ rfl) _ rfl).2 _ rfl) _ rfl).2 _ rfl) _ rfl).2 _ rfl) _ rfl).2 _ rfl) _ rfl).2 _ rfl) _ rfl).2 _ rfl) _ rfl).2 _ rfl) _ rfl).2 _ rfl) _ rfl).2 _ rfl) _ rfl).2 _ rfl) _ rfl).2 _ rfl) _ rfl) _ rfl).2 _ rfl) _ rfl).2 _ rfl) _ rfl).2.2.2.2 _ rfl).2.2.2 _ rfl).2.2.2 _ rfl).2.2.2 _ rfl).2.2.2 _ rfl).2.1 ((((((((((((((((((((((((((((((((((h0.2 _ rfl).2.2 _ rfl) _ rfl).2 _ rfl) _ rfl).2 _ rfl) _ rfl).2 _ rfl) _ rfl).2 _ rfl) _ rfl).2 _ rfl) _ rfl).2 _ rfl) _ rfl).2 _ rfl) _ rfl).2 _ rfl) _ rfl).2 _ rfl) _ rfl).2 _ rfl) _ rfl).2 _ rfl) _ rfl).2 _ rfl) _ rfl).2 _ rfl) _ rfl) _ rfl).2 _ rfl) _ rfl).2 _ rfl) _ rfl).2.2.1 (((((((((((((((((((((((((((((((((((((((h0.2 _ rfl).2.2 _ rfl) _ rfl).2 _ rfl) _ rfl).2 _ rfl) _ rfl).2 _ rfl) _ rfl).2 _ rfl) _ rfl).2 _ rfl) _ rfl).2 _ rfl) _ rfl).2 _ rfl) _ rfl).2 _ rfl) _ rfl).2 _ rfl) _ rfl).2 _ rfl) _ rfl).2 _ rfl) _ rfl).2 _ rfl) _ rfl).2 _ rfl) _ rfl) _ rfl).2 _ rfl) _ rfl).2 _ rfl) _ rfl).2.2.2.2 _ rfl).2.2.2 _ rfl).2.2.2 _ rfl).2.2.2 _ rfl).2.2.2 _ rfl).2.2.1 (wr_dup rfl rfl rfl (wr_bipush (a := zi 6) rfl rfl rfl (wr_ldc rfl (w := .ref 29) rfl rfl (wr_aastore rfl rfl ((((((((((((((((((((((((((((((((((((((((h0.2 _ rfl).2.2 _ rfl) _ rfl).2 _ rfl) _ rfl).2 _ rfl) _ rfl).2 _ rfl) _ rfl).2 _ rfl) _ rfl).2 _ rfl) _ rfl).2 _ rfl) _ rfl).2 _ rfl) _ rfl).2 _ rfl) _ rfl).2 _ rfl) _ rfl).2 _ rfl) _ rfl).2 _ rfl) _ rfl).2 _ rfl) _ rfl).2 _ rfl) _ rfl) _ rfl).2 _ rfl) _ rfl).2 _ rfl) _ rfl).2.2.2.2 _ rfl).2.2.2 _ rfl).2.2.2 _ rfl).2.2.2 _ rfl).2.2.2 _ rfl).2.2.2 _ rfl).1 ((((((((((((((((((((((((((((((((((((((((h0.2 _ rfl).2.2 _ rfl) _ rfl).2 _ rfl) _ rfl).2 _ rfl) _ rfl).2 _ rfl) _ rfl).2 _ rfl) _ rfl).2 _ rfl) _ rfl).2 _ rfl) _ rfl).2 _ rfl) _ rfl).2 _ rfl) _ rfl).2 _ rfl) _ rfl).2 _ rfl) _ rfl).2 _ rfl) _ rfl).2 _ rfl) _ rfl).2 _ rfl) _ rfl) _ rfl).2 _ rfl) _ rfl).2 _ rfl) _ rfl).2.2.2.2 _ rfl).2.2.2 _ rfl).2.2.2 _ rfl).2.2.2 _ rfl).2.2.2 _ rfl).2.2.2 _ rfl).2.1 ((((((((((((((((((((((((((((((((((h0.2 _ rfl).2.2 _ rfl) _ rfl).2 _ rfl) _ rfl).2 _ rfl) _ rfl).2 _ rfl) _ rfl).2 _ rfl) _ rfl).2 _ rfl) _ rfl).2 _ rfl) _ rfl).2 _ rfl) _ rfl).2 _ rfl) _ rfl).2 _ rfl) _ rfl).2 _ rfl) _ rfl).2 _ rfl) _ rfl).2 _ rfl) _ rfl).2 _ rfl) _ rfl) _ rfl).2 _ rfl) _ rfl).2 _ rfl) _ rfl).2.2.1 ((((((((((((((((((((((((((((((((((((((((h0.2 _ rfl).2.2 _ rfl) _ rfl).2 _ rfl) _ rfl).2 _ rfl) _ rfl).2 _ rfl) _ rfl).2 _ rfl) _ rfl).2 _ rfl) _ rfl).2 _ rfl) _ rfl).2 _ rfl) _ rfl).2 _ rfl) _ rfl).2 _ rfl) _ rfl).2 _ rfl) _ rfl).2 _ rfl) _ rfl).2 _ rfl) _ rfl).2 _ rfl) _ rfl) _ rfl).2 _ rfl) _ rfl).2 _ rfl) _ rfl).2.2.2.2 _ rfl).2.2.2 _ rfl).2.2.2 _ rfl).2.2.2 _ rfl).2.2.2 _ rfl).2.2.2 _ rfl).2.2.1 (wr_dup rfl rfl rfl (wr_bipush (a := zi 7) rfl rfl rfl (wr_ldc rfl (w := .ref 30) rfl rfl (wr_aastore rfl rfl (((((((((((((((((((((((((((((((((((((((((h0.2 _ rfl).2.2 _ rfl) _ rfl).2 _ rfl) _ rfl).2 _ rfl) _ rfl).2 _ rfl) _ rfl).2 _ rfl) _ rfl).2 _ rfl) _ rfl).2 _ rfl) _ rfl).2 _ rfl) _ rfl).2 _ rfl) _ rfl).2 _ rfl) _ rfl).2 _ rfl) _ rfl).2 _ rfl) _ rfl).2 _ rfl) _ rfl).2 _ rfl) _ rfl) _ rfl).2 _ rfl) _ rfl).2 _ rfl) _ rfl).2.2.2.2 _ rfl).2.2.2 _ rfl).2.2.2 _ rfl).2.2.2 _ rfl).2.2.2 _ rfl).2.2.2 _ rfl).2.2.2 _ rfl).1 (((((((((((((((((((((((((((((((((((((((((h0.2 _ rfl).2.2 _ rfl) _ rfl).2 _ rfl) _ rfl).2 _ rfl) _ rfl).2 _ rfl) _ rfl).2 _ rfl) _ rfl).2 _ rfl) _ rfl).2 _ rfl) _ rfl).2 _ rfl) _ rfl).2 _ rfl) _ rfl).2 _ rfl) _ rfl).2 _ rfl) _ rfl).2 _ rfl) _ rfl).2 _ rfl) _ rfl).2 _ rfl) _ rfl) _ rfl).2 _ rfl) _ rfl).2 _ rfl) _ rfl).2.2.2.2 _ rfl).2.2.2 _ rfl).2.2.2 _ rfl).2.2.2 _ rfl).2.2.2 _ rfl).2.2.2 _ rfl).2.2.2 _ rfl).2.1 ((((((((((((((((((((((((((((((((((h0.2 _ rfl).2.2 _ rfl) _ rfl).2 _ rfl) _ rfl).2 _ rfl) _ rfl).2 _ rfl) _ rfl).2 _ rfl) _ rfl).2 _ rfl) _ rfl).2 _ rfl) _ rfl).2 _ rfl) _ rfl).2 _ rfl) _ rfl).2 _ rfl) _ rfl).2 _ rfl) _ rfl).2 _ rfl) _ rfl).2 _ rfl) _ rfl).2 _ rfl) _ rfl) _ rfl).2 _ rfl) _ rfl).2 _ rfl) _ rfl).2.2.1 (((((((((((((((((((((((((((((((((((((((((h0.2 _ rfl).2.2 _ rfl) _ rfl).2 _ rfl) _ rfl).2 _ rfl) _ rfl).2 _ rfl) _ rfl).2 _ rfl) _ rfl).2 _ rfl) _ rfl).2 _ rfl) _ rfl).2 _ rfl) _ rfl).2 _ rfl) _ rfl).2 _ rfl) _ rfl).2 _ rfl) _ rfl).2 _ rfl) _ rfl).2 _ rfl) _ rfl).2 _ rfl) _ rfl) _ rfl).2 _ rfl) _ rfl).2 _ rfl) _ rfl).2.2.2.2 _ rfl).2.2.2 _ rfl).2.2.2 _ rfl).2.2.2 _ rfl).2.2.2 _ rfl).2.2.2 _ rfl).2.2.2 _ rfl).2.2.1 (wr_dup rfl rfl rfl (wr_bipush (a := zi 8) rfl rfl rfl (wr_ldc rfl (w := .ref 31) rfl rfl (wr_aastore rfl rfl ((((((((((((((((((((((((((((((((((((((((((h0.2 _ rfl).2.2 _ rfl) _ rfl).2 _ rfl) _ rfl).2 _ rfl) _ rfl).2 _ rfl) _ rfl).2 _ rfl) _ rfl).2 _ rfl) _ rfl).2 _ rfl) _ rfl).2 _ rfl) _ rfl).2 _ rfl) _ rfl).2 _ rfl) _ rfl).2 _ rfl) _ rfl).2 _ rfl) _ rfl).2 _ rfl) _ rfl).2 _ rfl) _ rfl) _ rfl).2 _ rfl) _ rfl).2 _ rfl) _ rfl).2.2.2.2 _ rfl).2.2.2 _ rfl).2.2.2 _ rfl).2.2.2 _ rfl).2.2.2 _ rfl).2.2.2 _ rfl).2.2.2 _ rfl).2.2.2 _ rfl).1 ((((((((((((((((((((((((((((((((((((((((((h0.2 _ rfl).2.2 _ rfl) _ rfl).2 _ rfl) _ rfl).2 _ rfl) _ rfl).2 _ rfl) _ rfl).2 _ rfl) _ rfl).2 _ rfl) _ rfl).2 _ rfl) _ rfl).2 _ rfl) _ rfl).2 _ rfl) _ rfl).2 _ rfl) _ rfl).2 _ rfl) _ rfl).2 _ rfl) _ rfl).2 _ rfl) _ rfl).2 _ rfl) _ rfl) _ rfl).2 _ rfl) _ rfl).2 _ rfl) _ rfl).2.2.2.2 _ rfl).2.2.2 _ rfl).2.2.2 _ rfl).2.2.2 _ rfl).2.2.2 _ rfl).2.2.2 _ rfl).2.2.2 _ rfl).2.2.2 _ rfl).2.1 ((((((((((((((((((((((((((((((((((h0.2 _ rfl).2.2 _ rfl) _ rfl).2 _ rfl) _ rfl).2 _ rfl) _ rfl).2 _ rfl) _ rfl).2 _ rfl) _ rfl).2 _ rfl) _ rfl).2 _ rfl) _ rfl).2 _ rfl) _ rfl).2 _ rfl) _ rfl).2 _ rfl) _ rfl).2 _ rfl) _ rfl).2 _ rfl) _ rfl).2 _ rfl) _ rfl).2 _ rfl) _ rfl) _ rfl).2 _ rfl) _ rfl).2 _ rfl) _ rfl).2.2.1 ((((((((((((((((((((((((((((((((((((((((((h0.2 _ rfl).2.2 _ rfl) _ rfl).2 _ rfl) _ rfl).2 _ rfl) _ rfl).2 _ rfl) _ rfl).2 _ rfl) _ rfl).2 _ rfl) _ rfl).2 _ rfl) _ rfl).2 _ rfl) _ rfl).2 _ rfl) _ rfl).2 _ rfl) _ rfl).2 _ rfl) _ rfl).2 _ rfl) _ rfl).2 _ rfl) _ rfl).2 _ rfl) _ rfl) _ rfl).2 _ rfl) _ rfl).2 _ rfl) _ rfl).2.2.2.2 _ rfl).2.2.2 _ rfl).2.2.2 _ rfl).2.2.2 _ rfl).2.2.2 _ rfl).2.2.2 _ rfl).2.2.2 _ rfl).2.2.2 _ rfl).2.2.1 (wr_pfR rfl rfl (by decide) (((((((((((((((((((((((((((((((((((((((((((h0.2 _ rfl).2.2 _ rfl) _ rfl).2 _ rfl) _ rfl).2 _ rfl) _ rfl).2 _ rfl) _ rfl).2 _ rfl) _ rfl).2 _ rfl) _ rfl).2 _ rfl) _ rfl).2 _ rfl) _ rfl).2 _ rfl) _ rfl).2 _ rfl) _ rfl).2 _ rfl) _ rfl).2 _ rfl) _ rfl).2 _ rfl) _ rfl).2 _ rfl) _ rfl) _ rfl).2 _ rfl) _ rfl).2 _ rfl) _ rfl).2.2.2.2 _ rfl).2.2.2 _ rfl).2.2.2 _ rfl).2.2.2 _ rfl).2.2.2 _ rfl).2.2.2 _ rfl).2.2.2 _ rfl).2.2.2 _ rfl).2.2.2 _ rfl).1 (h0.2 _ rfl).2.1 (wr_aload_n rfl rfl rfl (wr_sipush (a := zi 960) rfl rfl rfl (wr_newarray rfl rfl (by decide) (wr_pfR rfl rfl (by decide) (((((((((((((((((((((((((((((((((((((((((((((h0.2 _ rfl).2.2 _ rfl) _ rfl).2 _ rfl) _ rfl).2 _ rfl) _ rfl).2 _ rfl) _ rfl).2 _ rfl) _ rfl).2 _ rfl) _ rfl).2 _ rfl) _ rfl).2 _ rfl) _ rfl).2 _ rfl) _ rfl).2 _ rfl) _ rfl).2 _ rfl) _ rfl).2 _ rfl) _ rfl).2 _ rfl) _ rfl).2 _ rfl) _ rfl) _ rfl).2 _ rfl) _ rfl).2 _ rfl) _ rfl).2.2.2.2 _ rfl).2.2.2 _ rfl).2.2.2 _ rfl).2.2.2 _ rfl).2.2.2 _ rfl).2.2.2 _ rfl).2.2.2 _ rfl).2.2.2 _ rfl).2.2.2 _ rfl).2 _ rfl) _ rfl).1 (h0.2 _ rfl).2.1 (wr_aload_n rfl rfl rfl (wr_sipush (a := zi 960) rfl rfl rfl (wr_newarray rfl rfl (by decide) (wr_pfR rfl rfl (by decide) (((((((((((((((((((((((((((((((((((((((((((((((h0.2 _ rfl).2.2 _ rfl) _ rfl).2 _ rfl) _ rfl).2 _ rfl) _ rfl).2 _ rfl) _ rfl).2 _ rfl) _ rfl).2 _ rfl) _ rfl).2 _ rfl) _ rfl).2 _ rfl) _ rfl).2 _ rfl) _ rfl).2 _ rfl) _ rfl).2 _ rfl) _ rfl).2 _ rfl) _ rfl).2 _ rfl) _ rfl).2 _ rfl) _ rfl) _ rfl).2 _ rfl) _ rfl).2 _ rfl) _ rfl).2.2.2.2 _ rfl).2.2.2 _ rfl).2.2.2 _ rfl).2.2.2 _ rfl).2.2.2 _ rfl).2.2.2 _ rfl).2.2.2 _ rfl).2.2.2 _ rfl).2.2.2 _ rfl).2 _ rfl) _ rfl).2 _ rfl) _ rfl).1 (h0.2 _ rfl).2.1 (wr_aload_n rfl rfl rfl (wr_iconst rfl rfl (wr_newarray rfl rfl (by decide) (wr_pfR rfl rfl (by decide) (((((((((((((((((((((((((((((((((((((((((((((((((h0.2 _ rfl).2.2 _ rfl) _ rfl).2 _ rfl) _ rfl).2 _ rfl) _ rfl).2 _ rfl) _ rfl).2 _ rfl) _ rfl).2 _ rfl) _ rfl).2 _ rfl) _ rfl).2 _ rfl) _ rfl).2 _ rfl) _ rfl).2 _ rfl) _ rfl).2 _ rfl) _ rfl).2 _ rfl) _ rfl).2 _ rfl) _ rfl).2 _ rfl) _ rfl) _ rfl).2 _ rfl) _ rfl).2 _ rfl) _ rfl).2.2.2.2 _ rfl).2.2.2 _ rfl).2.2.2 _ rfl).2.2.2 _ rfl).2.2.2 _ rfl).2.2.2 _ rfl).2.2.2 _ rfl).2.2.2 _ rfl).2.2.2 _ rfl).2 _ rfl) _ rfl).2 _ rfl) _ rfl).2 _ rfl) _ rfl).1 (h0.2 _ rfl).2.1 (wr_aload_n rfl rfl rfl (wr_sipush (a := zi 240) rfl rfl rfl (wr_newarray rfl rfl (by decide) (wr_pfR rfl rfl (by decide) (((((((((((((((((((((((((((((((((((((((((((((((((((h0.2 _ rfl).2.2 _ rfl) _ rfl).2 _ rfl) _ rfl).2 _ rfl) _ rfl).2 _ rfl) _ rfl).2 _ rfl) _ rfl).2 _ rfl) _ rfl).2 _ rfl) _ rfl).2 _ rfl) _ rfl).2 _ rfl) _ rfl).2 _ rfl) _ rfl).2 _ rfl) _ rfl).2 _ rfl) _ rfl).2 _ rfl) _ rfl).2 _ rfl) _ rfl) _ rfl).2 _ rfl) _ rfl).2 _ rfl) _ rfl).2.2.2.2 _ rfl).2.2.2 _ rfl).2.2.2 _ rfl).2.2.2 _ rfl).2.2.2 _ rfl).2.2.2 _ rfl).2.2.2 _ rfl).2.2.2 _ rfl).2.2.2 _ rfl).2 _ rfl) _ rfl).2 _ rfl) _ rfl).2 _ rfl) _ rfl).2 _ rfl) _ rfl).1 (h0.2 _ rfl).2.1 (wr_aload_n rfl rfl rfl (wr_sipush (a := zi 240) rfl rfl rfl (wr_newarray rfl rfl (by decide) (wr_pfR rfl rfl (by decide) (((((((((((((((((((((((((((((((((((((((((((((((((((((h0.2 _ rfl).2.2 _ rfl) _ rfl).2 _ rfl) _ rfl).2 _ rfl) _ rfl).2 _ rfl) _ rfl).2 _ rfl) _ rfl).2 _ rfl) _ rfl).2 _ rfl) _ rfl).2 _ rfl) _ rfl).2 _ rfl) _ rfl).2 _ rfl) _ rfl).2 _ rfl) _ rfl).2 _ rfl) _ rfl).2 _ rfl) _ rfl).2 _ rfl) _ rfl) _ rfl).2 _ rfl) _ rfl).2 _ rfl) _ rfl).2.2.2.2 _ rfl).2.2.2 _ rfl).2.2.2 _ rfl).2.2.2 _ rfl).2.2.2 _ rfl).2.2.2 _ rfl).2.2.2 _ rfl).2.2.2 _ rfl).2.2.2 _ rfl).2 _ rfl) _ rfl).2 _ rfl) _ rfl).2 _ rfl) _ rfl).2 _ rfl) _ rfl).2 _ rfl) _ rfl).1 (h0.2 _ rfl).2.1 (wr_aload_n rfl rfl rfl (wr_sipush (a := zi 240) rfl rfl rfl (wr_newarray rfl rfl (by decide) (wr_pfR rfl rfl (by decide) (((((((((((((((((((((((((((((((((((((((((((((((((((((((h0.2 _ rfl).2.2 _ rfl) _ rfl).2 _ rfl) _ rfl).2 _ rfl) _ rfl).2 _ rfl) _ rfl).2 _ rfl) _ rfl).2 _ rfl) _ rfl).2 _ rfl) _ rfl).2 _ rfl) _ rfl).2 _ rfl) _ rfl).2 _ rfl) _ rfl).2 _ rfl) _ rfl).2 _ rfl) _ rfl).2 _ rfl) _ rfl).2 _ rfl) _ rfl) _ rfl).2 _ rfl) _ rfl).2 _ rfl) _ rfl).2.2.2.2 _ rfl).2.2.2 _ rfl).2.2.2 _ rfl).2.2.2 _ rfl).2.2.2 _ rfl).2.2.2 _ rfl).2.2.2 _ rfl).2.2.2 _ rfl).2.2.2 _ rfl).2 _ rfl) _ rfl).2 _ rfl) _ rfl).2 _ rfl) _ rfl).2 _ rfl) _ rfl).2 _ rfl) _ rfl).2 _ rfl) _ rfl).1 (h0.2 _ rfl).2.1 (wr_aload_n rfl rfl rfl (wr_sipush (a := zi 240) rfl rfl rfl (wr_newarray rfl rfl (by decide) (wr_pfR rfl rfl (by decide) (((((((((((((((((((((((((((((((((((((((((((((((((((((((((h0.2 _ rfl).2.2 _ rfl) _ rfl).2 _ rfl) _ rfl).2 _ rfl) _ rfl).2 _ rfl) _ rfl).2 _ rfl) _ rfl).2 _ rfl) _ rfl).2 _ rfl) _ rfl).2 _ rfl) _ rfl).2 _ rfl) _ rfl).2 _ rfl) _ rfl).2 _ rfl) _ rfl).2 _ rfl) _ rfl).2 _ rfl) _ rfl).2 _ rfl) _ rfl) _ rfl).2 _ rfl) _ rfl).2 _ rfl) _ rfl).2.2.2.2 _ rfl).2.2.2 _ rfl).2.2.2 _ rfl).2.2.2 _ rfl).2.2.2 _ rfl).2.2.2 _ rfl).2.2.2 _ rfl).2.2.2 _ rfl).2.2.2 _ rfl).2 _ rfl) _ rfl).2 _ rfl) _ rfl).2 _ rfl) _ rfl).2 _ rfl) _ rfl).2 _ rfl) _ rfl).2 _ rfl) _ rfl).2 _ rfl) _ rfl).1 (h0.2 _ rfl).2.1 (wr_aload_n rfl rfl rfl (wr_sipush (a := zi 240) rfl rfl rfl (wr_newarray rfl rfl (by decide) (wr_pfR rfl rfl (by decide) (((((((((((((((((((((((((((((((((((((((((((((((((((((((((((h0.2 _ rfl).2.2 _ rfl) _ rfl).2 _ rfl) _ rfl).2 _ rfl) _ rfl).2 _ rfl) _ rfl).2 _ rfl) _ rfl).2 _ rfl) _ rfl).2 _ rfl) _ rfl).2 _ rfl) _ rfl).2 _ rfl) _ rfl).2 _ rfl) _ rfl).2 _ rfl) _ rfl).2 _ rfl) _ rfl).2 _ rfl) _ rfl).2 _ rfl) _ rfl) _ rfl).2 _ rfl) _ rfl).2 _ rfl) _ rfl).2.2.2.2 _ rfl).2.2.2 _ rfl).2.2.2 _ rfl).2.2.2 _ rfl).2.2.2 _ rfl).2.2.2 _ rfl).2.2.2 _ rfl).2.2.2 _ rfl).2.2.2 _ rfl).2 _ rfl) _ rfl).2 _ rfl) _ rfl).2 _ rfl) _ rfl).2 _ rfl) _ rfl).2 _ rfl) _ rfl).2 _ rfl) _ rfl).2 _ rfl) _ rfl).2 _ rfl) _ rfl).1 (h0.2 _ rfl).2.1 (wr_aload_n rfl rfl rfl (wr_sipush (a := zi 240) rfl rfl rfl (wr_newarray rfl rfl (by decide) (wr_pfR rfl rfl (by decide) (((((((((((((((((((((((((((((((((((((((((((((((((((((((((((((h0.2 _ rfl).2.2 _ rfl) _ rfl).2 _ rfl) _ rfl).2 _ rfl) _ rfl).2 _ rfl) _ rfl).2 _ rfl) _ rfl).2 _ rfl) _ rfl).2 _ rfl) _ rfl).2 _ rfl) _ rfl).2 _ rfl) _ rfl).2 _ rfl) _ rfl).2 _ rfl) _ rfl).2 _ rfl) _ rfl).2 _ rfl) _ rfl).2 _ rfl) _ rfl) _ rfl).2 _ rfl) _ rfl).2 _ rfl) _ rfl).2.2.2.2 _ rfl).2.2.2 _ rfl).2.2.2 _ rfl).2.2.2 _ rfl).2.2.2 _ rfl).2.2.2 _ rfl).2.2.2 _ rfl).2.2.2 _ rfl).2.2.2 _ rfl).2 _ rfl) _ rfl).2 _ rfl) _ rfl).2 _ rfl) _ rfl).2 _ rfl) _ rfl).2 _ rfl) _ rfl).2 _ rfl) _ rfl).2 _ rfl) _ rfl).2 _ rfl) _ rfl).2 _ rfl) _ rfl).1 (h0.2 _ rfl).2.1 (wr_aload_n rfl rfl rfl (wr_sipush (a := zi 240) rfl rfl rfl (wr_newarray rfl rfl (by decide) (wr_pfR rfl rfl (by decide) (((((((((((((((((((((((((((((((((((((((((((((((((((((((((((((((h0.2 _ rfl).2.2 _ rfl) _ rfl).2 _ rfl) _ rfl).2 _ rfl) _ rfl).2 _ rfl) _ rfl).2 _ rfl) _ rfl).2 _ rfl) _ rfl).2 _ rfl) _ rfl).2 _ rfl) _ rfl).2 _ rfl) _ rfl).2 _ rfl) _ rfl).2 _ rfl) _ rfl).2 _ rfl) _ rfl).2 _ rfl) _ rfl).2 _ rfl) _ rfl) _ rfl).2 _ rfl) _ rfl).2 _ rfl) _ rfl).2.2.2.2 _ rfl).2.2.2 _ rfl).2.2.2 _ rfl).2.2.2 _ rfl).2.2.2 _ rfl).2.2.2 _ rfl).2.2.2 _ rfl).2.2.2 _ rfl).2.2.2 _ rfl).2 _ rfl) _ rfl).2 _ rfl) _ rfl).2 _ rfl) _ rfl).2 _ rfl) _ rfl).2 _ rfl) _ rfl).2 _ rfl) _ rfl).2 _ rfl) _ rfl).2 _ rfl) _ rfl).2 _ rfl) _ rfl).2 _ rfl) _ rfl).1 (h0.2 _ rfl).2.1 (wr_aload_n rfl rfl rfl (wr_sipush (a := zi 240) rfl rfl rfl (wr_newarray rfl rfl (by decide) (wr_pfR rfl rfl (by decide) (((((((((((((((((((((((((((((((((((((((((((((((((((((((((((((((((h0.2 _ rfl).2.2 _ rfl) _ rfl).2 _ rfl) _ rfl).2 _ rfl) _ rfl).2 _ rfl) _ rfl).2 _ rfl) _ rfl).2 _ rfl) _ rfl).2 _ rfl) _ rfl).2 _ rfl) _ rfl).2 _ rfl) _ rfl).2 _ rfl) _ rfl).2 _ rfl) _ rfl).2 _ rfl) _ rfl).2 _ rfl) _ rfl).2 _ rfl) _ rfl) _ rfl).2 _ rfl) _ rfl).2 _ rfl) _ rfl).2.2.2.2 _ rfl).2.2.2 _ rfl).2.2.2 _ rfl).2.2.2 _ rfl).2.2.2 _ rfl).2.2.2 _ rfl).2.2.2 _ rfl).2.2.2 _ rfl).2.2.2 _ rfl).2 _ rfl) _ rfl).2 _ rfl) _ rfl).2 _ rfl) _ rfl).2 _ rfl) _ rfl).2 _ rfl) _ rfl).2 _ rfl) _ rfl).2 _ rfl) _ rfl).2 _ rfl) _ rfl).2 _ rfl) _ rfl).2 _ rfl) _ rfl).2 _ rfl) _ rfl).1 (h0.2 _ rfl).2.1 (wr_aload_n rfl rfl rfl (wr_sipush (a := zi 240) rfl rfl rfl (wr_newarray rfl rfl (by decide) (wr_pfR rfl rfl (by decide) (((((((((((((((((((((((((((((((((((((((((((((((((((((((((((((((((((h0.2 _ rfl).2.2 _ rfl) _ rfl).2 _ rfl) _ rfl).2 _ rfl) _ rfl).2 _ rfl) _ rfl).2 _ rfl) _ rfl).2 _ rfl) _ rfl).2 _ rfl) _ rfl).2 _ rfl) _ rfl).2 _ rfl) _ rfl).2 _ rfl) _ rfl).2 _ rfl) _ rfl).2 _ rfl) _ rfl).2 _ rfl) _ rfl).2 _ rfl) _ rfl) _ rfl).2 _ rfl) _ rfl).2 _ rfl) _ rfl).2.2.2.2 _ rfl).2.2.2 _ rfl).2.2.2 _ rfl).2.2.2 _ rfl).2.2.2 _ rfl).2.2.2 _ rfl).2.2.2 _ rfl).2.2.2 _ rfl).2.2.2 _ rfl).2 _ rfl) _ rfl).2 _ rfl) _ rfl).2 _ rfl) _ rfl).2 _ rfl) _ rfl).2 _ rfl) _ rfl).2 _ rfl) _ rfl).2 _ rfl) _ rfl).2 _ rfl) _ rfl).2 _ rfl) _ rfl).2 _ rfl) _ rfl).2 _ rfl) _ rfl).2 _ rfl) _ rfl).1 (h0.2 _ rfl).2.1 (wr_aload_n rfl rfl rfl (wr_sipush (a := zi 240) rfl rfl rfl (wr_newarray rfl rfl (by decide) (wr_pfR rfl rfl (by decide) (((((((((((((((((((((((((((((((((((((((((((((((((((((((((((((((((((((h0.2 _ rfl).2.2 _ rfl) _ rfl).2 _ rfl) _ rfl).2 _ rfl) _ rfl).2 _ rfl) _ rfl).2 _ rfl) _ rfl).2 _ rfl) _ rfl).2 _ rfl) _ rfl).2 _ rfl) _ rfl).2 _ rfl) _ rfl).2 _ rfl) _ rfl).2 _ rfl) _ rfl).2 _ rfl) _ rfl).2 _ rfl) _ rfl).2 _ rfl) _ rfl) _ rfl).2 _ rfl) _ rfl).2 _ rfl) _ rfl).2.2.2.2 _ rfl).2.2.2 _ rfl).2.2.2 _ rfl).2.2.2 _ rfl).2.2.2 _ rfl).2.2.2 _ rfl).2.2.2 _ rfl).2.2.2 _ rfl).2.2.2 _ rfl).2 _ rfl) _ rfl).2 _ rfl) _ rfl).2 _ rfl) _ rfl).2 _ rfl) _ rfl).2 _ rfl) _ rfl).2 _ rfl) _ rfl).2 _ rfl) _ rfl).2 _ rfl) _ rfl).2 _ rfl) _ rfl).2 _ rfl) _ rfl).2 _ rfl) _ rfl).2 _ rfl) _ rfl).2 _ rfl) _ rfl).1 (h0.2 _ rfl).2.1 (wr_return rfl ((((((((((((((((((((((((((((((((((((((((((((((((((((((((((((((((((((((h0.2 _ rfl).2.2 _ rfl) _ rfl).2 _ rfl) _ rfl).2 _ rfl) _ rfl).2 _ rfl) _ rfl).2 _ rfl) _ rfl).2 _ rfl) _ rfl).2 _ rfl) _ rfl).2 _ rfl) _ rfl).2 _ rfl) _ rfl).2 _ rfl) _ rfl).2 _ rfl) _ rfl).2 _ rfl) _ rfl).2 _ rfl) _ rfl).2 _ rfl) _ rfl) _ rfl).2 _ rfl) _ rfl).2 _ rfl) _ rfl).2.2.2.2 _ rfl).2.2.2 _ rfl).2.2.2 _ rfl).2.2.2 _ rfl).2.2.2 _ rfl).2.2.2 _ rfl).2.2.2 _ rfl).2.2.2 _ rfl).2.2.2 _ rfl).2 _ rfl) _ rfl).2 _ rfl) _ rfl).2 _ rfl) _ rfl).2 _ rfl) _ rfl).2 _ rfl) _ rfl).2 _ rfl) _ rfl).2 _ rfl) _ rfl).2 _ rfl) _ rfl).2 _ rfl) _ rfl).2 _ rfl) _ rfl).2 _ rfl) _ rfl).2 _ rfl) _ rfl).2 _ rfl) _ rfl).2 _ rfl))))))))))))))))))))))))))))))))))))))))))))))))))))))))))))))))))))))))))))))))))))))))))))))))))))))))))))))))))))))))))))))))))))))))))))))))))))))))))))))))))))
/-- SpreadsheetEngine$Parser.<init>(LSpreadsheetEngine;)V : labels [] -/
theorem k346 {d : Nat} {x0 : Nat} {x1 : Nat} {σ : cm_S} {Q : cm_O → Prop} (hd : 2 ≤ d) (h0 : cm_tg σ x0 = 10 ∧
cm_K cp ≤ x0 ∧
(∀ σ1, σ1 = cm_pR σ x0 2 x1 → 
∀ σ2, σ2 = cm_pI σ1 x0 0 (zi 1) → 
Q (false, .int 0, σ2))) : wp_c d 346 [.ref x0, .ref x1] σ Q :=
  wc_in (by omega) rfl rfl (L := [.ref x0, .ref x1]) rfl (have hd : 1 ≤ d - 1 := (by omega); (wr_aload_n rfl rfl rfl (wr_aload_n rfl rfl rfl (wr_pfR rfl rfl (by decide) h0.1 h0.2.1 (wr_aload_n rfl rfl rfl (wr_objinit rfl hd rfl rfl (cr_ne0 h0.1 rfl) (wr_aload_n rfl rfl rfl (wr_iconst rfl rfl (wr_pfI rfl rfl (by decide) ⟨by decide, by decide⟩ h0.1 h0.2.1 rfl (wr_return rfl ((h0.2.2 _ rfl) _ rfl)))))))))))
