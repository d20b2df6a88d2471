/-! WHAT METHODS ASK (by gen/mkwp.py e SE$Sheet SE$Registry SE$RangeName SE$Content SE$Literal SE$Reference SE$Broken SE$Name SE$Range SE$Binary SE$Negation SE$Parentheses SE$Call SE$Node SE$Function SE$Rewriter SE$Shifter SE$Renamer SE$RowChange SE$Printer) -/
set_option maxRecDepth 100000
/-- SpreadsheetEngine$Sheet.copy()LSpreadsheetEngine$Sheet; : labels [] -/
theorem k109 {d : Nat} {x0 : Nat} {σ : cm_S} {Q : cm_O → Prop} (hd : 2 ≤ d) (h0 : ∀ σ1, σ1 = cm_al σ 5 2 → 
wp_c (d - 1) 110 [.ref (cm_nx σ)] σ1 (qv fun σ2 => cm_tg σ2 x0 = 5 ∧
cm_tg σ2 (cm_nx σ) = 5 ∧
cm_cw σ2 (cm_R σ2 x0 0) (cm_R σ2 (cm_nx σ) 0) (zi 0) (zi 0) (zi 240) (fun σ3 => cm_tg σ3 (cm_nx σ) = 5 ∧
cm_tg σ3 x0 = 5 ∧
cm_tg σ3 (cm_R σ3 (cm_nx σ) 1) = 6 ∧
wp_c (d - 1) 111 [.ref (cm_R σ3 (cm_nx σ) 1), .ref (cm_R σ3 x0 1)] σ3 (qv fun σ4 => Q (false, .ref (cm_nx σ), σ4))))) : wp_c d 109 [.ref x0] σ Q :=
  wc_in (by omega) rfl rfl (L := [.ref x0, .null]) rfl (have hd : 1 ≤ d - 1 := (by omega); (wr_new rfl rfl (wr_dup rfl rfl rfl (wr_invpv rfl hd rfl (fun _ => rfl) rfl (cr_60 (tg_new _ _ _) rfl) rfl (wm_v (h0 _ rfl) fun σ2 h1 => (wr_astore_n rfl rfl rfl (L2 := [.ref x0, .ref (cm_nx σ)]) rfl (wr_aload_n rfl rfl rfl (wr_gfR rfl rfl (by decide) h1.1 (wr_iconst rfl rfl (wr_aload_n rfl rfl rfl (wr_gfR rfl rfl (by decide) h1.2.1 (wr_iconst rfl rfl (wr_sipush (a := zi 240) rfl rfl rfl (wr_arraycopy rfl hd rfl rfl (h1.2.2.mono (fun σ3 h2 => (wr_aload_n rfl rfl rfl (wr_gfR rfl rfl (by decide) h2.1 (wr_aload_n rfl rfl rfl (wr_gfR rfl rfl (by decide) h2.2.1 (wr_invwv rfl hd rfl (fun _ => rfl) rfl (cr_dt rfl h2.2.2.1) rfl (wm_v h2.2.2.2 fun σ4 h3 => (wr_aload_n rfl rfl rfl (wr_areturn rfl h3))))))))))))))))))))))))
/-- SpreadsheetEngine$Sheet.<init>()V : labels [] -/
theorem k110 {d : Nat} {x0 : Nat} {σ : cm_S} {Q : cm_O → Prop} (hd : 2 ≤ d) (h0 : cm_tg σ x0 ≠ 0 ∧
∀ σ1, σ1 = cm_al σ 107 (cm_ix (zi 240)) → 
cm_tg σ1 x0 = 5 ∧
cm_K cp ≤ x0 ∧
(∀ σ2, σ2 = cm_pR σ1 x0 0 (cm_nx σ) → 
∀ σ3, σ3 = cm_al σ2 6 1 → 
wp_c (d - 1) 114 [.ref (cm_nx σ2)] σ3 (qv fun σ4 => cm_tg σ4 x0 = 5 ∧
(∀ σ5, σ5 = cm_pR σ4 x0 1 (cm_nx σ2) → 
Q (false, .int 0, σ5))))) : wp_c d 110 [.ref x0] σ Q :=
  wc_in (by omega) rfl rfl (L := [.ref x0]) rfl (have hd : 1 ≤ d - 1 := (by omega); (wr_aload_n rfl rfl rfl (wr_objinit rfl hd rfl rfl h0.1 (wr_aload_n rfl rfl rfl (wr_sipush (a := zi 240) rfl rfl rfl (wr_anewarray rfl rfl (by decide) (wr_pfR rfl rfl (by decide) (h0.2 _ rfl).1 (h0.2 _ rfl).2.1 (wr_aload_n rfl rfl rfl (wr_new rfl rfl (wr_dup rfl rfl rfl (wr_invpv rfl hd rfl (fun _ => rfl) rfl (cr_60 (tg_new _ _ _) rfl) rfl (wm_v (((h0.2 _ rfl).2.2 _ rfl) _ rfl) fun σ4 h1 => (wr_pfR rfl rfl (by decide) h1.1 (h0.2 _ rfl).2.1 (wr_return rfl (h1.2 _ rfl)))))))))))))))
/-- SpreadsheetEngine$Registry.copyFrom(LSpreadsheetEngine$Registry;)V : labels [] -/
theorem k111 {d : Nat} {x0 : Nat} {x1 : Nat} {σ : cm_S} {Q : cm_O → Prop} (hd : 2 ≤ d) (h0 : cm_tg σ x0 = 6 ∧
cm_tg σ (cm_R σ x0 0) = 25 ∧
wp_c (d - 1) 460 [.ref (cm_R σ x0 0)] σ (qv fun σ1 => cm_tg σ1 x0 = 6 ∧
cm_tg σ1 x1 = 6 ∧
cm_tg σ1 (cm_R σ1 x0 0) = 25 ∧
wp_c (d - 1) 458 [.ref (cm_R σ1 x0 0), .ref (cm_R σ1 x1 0)] σ1 (qi fun r2 σ2 => Q (false, .int 0, σ2)))) : wp_c d 111 [.ref x0, .ref x1] σ Q :=
  wc_in (by omega) rfl rfl (L := [.ref x0, .ref x1]) rfl (have hd : 1 ≤ d - 1 := (by omega); (wr_aload_n rfl rfl rfl (wr_gfR rfl rfl (by decide) h0.1 (wr_invfv rfl hd rfl (fun _ => rfl) rfl (cr_dt rfl h0.2.1) rfl (wm_v h0.2.2 fun σ1 h1 => (wr_aload_n rfl rfl rfl (wr_gfR rfl rfl (by decide) h1.1 (wr_aload_n rfl rfl rfl (wr_gfR rfl rfl (by decide) h1.2.1 (wr_invfi rfl hd rfl (fun _ => rfl) rfl (cr_dt rfl h1.2.2.1) rfl (wm_i h1.2.2.2 fun r2 σ2 h2 => (wr_pop rfl rfl rfl (wr_return rfl h2)))))))))))))
/-- SpreadsheetEngine$Registry.find(Ljava/lang/String;)I : labels [2] -/
theorem k112 {d : Nat} {x0 : Nat} {x1 : Nat} {σ : cm_S} {Q : cm_O → Prop} (hd : 2 ≤ d) (h0 : wp_r (d - 1) 112 (2, [.ref x0, .ref x1, .int (zi 0)], [], σ) Q) : wp_c d 112 [.ref x0, .ref x1] σ Q :=
  wc_in (by omega) rfl rfl (L := [.ref x0, .ref x1, .null]) rfl (have hd : 1 ≤ d - 1 := (by omega); (wr_iconst rfl rfl (wr_istore_n rfl rfl rfl (L2 := [.ref x0, .ref x1, .int (zi 0)]) rfl h0)))
theorem k112_2 {d : Nat} {x0 : Nat} {x1 : Nat} {x2 : Int32} {σ : cm_S} {Q : cm_O → Prop} (hd : 1 ≤ d) (h0 : cm_tg σ x0 = 6 ∧
cm_tg σ (cm_R σ x0 0) = 25 ∧
wp_c d 470 [.ref (cm_R σ x0 0)] σ (qi fun r1 σ1 => (x2 < r1 → (cm_tg σ1 x0 = 6 ∧
cm_tg σ1 (cm_R σ1 x0 0) = 25 ∧
wp_c d 463 [.ref (cm_R σ1 x0 0), .int x2] σ1 (qr fun r2 σ2 => (r2 = 0 ∨ cp_cast 7 (cm_tg σ2 r2) = some true) ∧
cm_tg σ2 r2 = 23 ∧
wp_c d 448 [.ref r2] σ2 (qr fun r3 σ3 => cm_tg σ3 r3 = 29 ∧
wp_c d 512 [.ref r3, .ref x1] σ3 (qi fun r4 σ4 => (r4 = (zi 0) → (wp_r d 112 (2, [.ref x0, .ref x1, .int (x2 + zi 1)], [], σ4) Q)) ∧
(¬ r4 = (zi 0) → (Q (false, .int x2, σ4)))))))) ∧
(¬ x2 < r1 → (Q (false, .int (zi (-1)), σ1))))) : wp_r d 112 (2, [.ref x0, .ref x1, .int x2], [], σ) Q :=
  (wr_iload_n rfl rfl rfl (wr_aload_n rfl rfl rfl (wr_gfR rfl rfl (by decide) h0.1 (wr_invfi rfl hd rfl (fun _ => rfl) rfl (cr_dt rfl h0.2.1) rfl (wm_i h0.2.2 fun r1 σ1 h1 => (wr_icmp_ge rfl rfl (cr_ii h1 (fun c2 h3 => (wr_aload_n rfl rfl rfl (wr_gfR rfl rfl (by decide) h3.1 (wr_iload_n rfl rfl rfl (wr_invfr rfl hd rfl (fun _ => rfl) rfl (cr_dt rfl h3.2.1) rfl (wm_r h3.2.2 fun r2 σ2 h4 => (wr_checkcast rfl rfl h4.1 (wr_invfr rfl hd rfl (fun _ => rfl) rfl (cr_dt rfl h4.2.1) rfl (wm_r h4.2.2 fun r3 σ3 h5 => (wr_aload_n rfl rfl rfl (wr_invwi rfl hd rfl (fun _ => rfl) rfl (cr_dt rfl h5.1) rfl (wm_i h5.2 fun r4 σ4 h6 => (wr_if_eq rfl rfl (cr_ii h6 (fun c7 h8 => (wr_iinc rfl rfl rfl (L2 := [.ref x0, .ref x1, .int (x2 + zi 1)]) rfl (wr_goto rfl h8))) (fun c9 h10 => (wr_iload_n rfl rfl rfl (wr_ireturn rfl rfl h10))))))))))))))))) (fun c11 h12 => (wr_iconst (k := -1) rfl rfl (wr_ireturn rfl rfl h12))))))))))
/-- SpreadsheetEngine$Registry.get(I)LSpreadsheetEngine$Named; : labels [] -/
theorem k113 {d : Nat} {x0 : Nat} {x1 : Int32} {σ : cm_S} {Q : cm_O → Prop} (hd : 2 ≤ d) (h0 : cm_tg σ x0 = 6 ∧
cm_tg σ (cm_R σ x0 0) = 25 ∧
wp_c (d - 1) 463 [.ref (cm_R σ x0 0), .int x1] σ (qr fun r1 σ1 => (r1 = 0 ∨ cp_cast 7 (cm_tg σ1 r1) = some true) ∧
Q (false, .ref r1, σ1))) : wp_c d 113 [.ref x0, .int x1] σ Q :=
  wc_in (by omega) rfl rfl (L := [.ref x0, .int x1]) rfl (have hd : 1 ≤ d - 1 := (by omega); (wr_aload_n rfl rfl rfl (wr_gfR rfl rfl (by decide) h0.1 (wr_iload_n rfl rfl rfl (wr_invfr rfl hd rfl (fun _ => rfl) rfl (cr_dt rfl h0.2.1) rfl (wm_r h0.2.2 fun r1 σ1 h1 => (wr_checkcast rfl rfl h1.1 (wr_areturn rfl h1.2))))))))
/-- SpreadsheetEngine$Registry.<init>()V : labels [] -/
theorem k114 {d : Nat} {x0 : Nat} {σ : cm_S} {Q : cm_O → Prop} (hd : 2 ≤ d) (h0 : cm_tg σ x0 ≠ 0 ∧
∀ σ1, σ1 = cm_al σ 25 3 → 
wp_c (d - 1) 466 [.ref (cm_nx σ), .int (zi 2)] σ1 (qv fun σ2 => cm_tg σ2 x0 = 6 ∧
cm_K cp ≤ x0 ∧
(∀ σ3, σ3 = cm_pR σ2 x0 0 (cm_nx σ) → 
Q (false, .int 0, σ3)))) : wp_c d 114 [.ref x0] σ Q :=
  wc_in (by omega) rfl rfl (L := [.ref x0]) rfl (have hd : 1 ≤ d - 1 := (by omega); (wr_aload_n rfl rfl rfl (wr_objinit rfl hd rfl rfl h0.1 (wr_aload_n rfl rfl rfl (wr_new rfl rfl (wr_dup rfl rfl rfl (wr_iconst rfl rfl (wr_invpv rfl hd rfl (fun _ => rfl) rfl (cr_60 (tg_new _ _ _) rfl) rfl (wm_v (h0.2 _ rfl) fun σ2 h1 => (wr_pfR rfl rfl (by decide) h1.1 h1.2.1 (wr_return rfl (h1.2.2 _ rfl))))))))))))
/-- SpreadsheetEngine$Registry.put(LSpreadsheetEngine$Named;)I : labels [] -/
theorem k115 {d : Nat} {x0 : Nat} {x1 : Nat} {σ : cm_S} {Q : cm_O → Prop} (hd : 2 ≤ d) (h0 : cm_tg σ x1 = 23 ∧
wp_c (d - 1) 448 [.ref x1] σ (qr fun r1 σ1 => cm_tg σ1 x0 = 6 ∧
wp_c (d - 1) 112 [.ref x0, .ref r1] σ1 (qi fun r2 σ2 => (r2 < (zi 0) → (cm_tg σ2 x0 = 6 ∧
cm_tg σ2 (cm_R σ2 x0 0) = 25 ∧
wp_c (d - 1) 457 [.ref (cm_R σ2 x0 0), .ref x1] σ2 (qi fun r3 σ3 => cm_tg σ3 x0 = 6 ∧
cm_tg σ3 (cm_R σ3 x0 0) = 25 ∧
wp_c (d - 1) 470 [.ref (cm_R σ3 x0 0)] σ3 (qi fun r4 σ4 => Q (false, .int (r4 - (zi 1)), σ4))))) ∧
(¬ r2 < (zi 0) → (cm_tg σ2 x0 = 6 ∧
cm_tg σ2 (cm_R σ2 x0 0) = 25 ∧
wp_c (d - 1) 469 [.ref (cm_R σ2 x0 0), .int r2, .ref x1] σ2 (qr fun r5 σ5 => Q (false, .int r2, σ5))))))) : wp_c d 115 [.ref x0, .ref x1] σ Q :=
  wc_in (by omega) rfl rfl (L := [.ref x0, .ref x1, .null]) rfl (have hd : 1 ≤ d - 1 := (by omega); (wr_aload_n rfl rfl rfl (wr_aload_n rfl rfl rfl (wr_invfr rfl hd rfl (fun _ => rfl) rfl (cr_dt rfl h0.1) rfl (wm_r h0.2 fun r1 σ1 h1 => (wr_invwi rfl hd rfl (fun _ => rfl) rfl (cr_dt rfl h1.1) rfl (wm_i h1.2 fun r2 σ2 h2 => (wr_istore_n rfl rfl rfl (L2 := [.ref x0, .ref x1, .int r2]) rfl (wr_iload_n rfl rfl rfl (wr_if_ge rfl rfl (cr_ii h2 (fun c3 h4 => (wr_aload_n rfl rfl rfl (wr_gfR rfl rfl (by decide) h4.1 (wr_aload_n rfl rfl rfl (wr_invfi rfl hd rfl (fun _ => rfl) rfl (cr_dt rfl h4.2.1) rfl (wm_i h4.2.2 fun r3 σ3 h5 => (wr_pop rfl rfl rfl (wr_aload_n rfl rfl rfl (wr_gfR rfl rfl (by decide) h5.1 (wr_invfi rfl hd rfl (fun _ => rfl) rfl (cr_dt rfl h5.2.1) rfl (wm_i h5.2.2 fun r4 σ4 h6 => (wr_iconst rfl rfl (wr_isub rfl rfl (wr_ireturn rfl rfl h6)))))))))))))) (fun c7 h8 => (wr_aload_n rfl rfl rfl (wr_gfR rfl rfl (by decide) h8.1 (wr_iload_n rfl rfl rfl (wr_aload_n rfl rfl rfl (wr_invfr rfl hd rfl (fun _ => rfl) rfl (cr_dt rfl h8.2.1) rfl (wm_r h8.2.2 fun r5 σ5 h9 => (wr_pop rfl rfl rfl (wr_iload_n rfl rfl rfl (wr_ireturn rfl rfl h9)))))))))))))))))))))
/-- SpreadsheetEngine$Registry.size()I : labels [] -/
theorem k116 {d : Nat} {x0 : Nat} {σ : cm_S} {Q : cm_O → Prop} (hd : 2 ≤ d) (h0 : cm_tg σ x0 = 6 ∧
cm_tg σ (cm_R σ x0 0) = 25 ∧
wp_c (d - 1) 470 [.ref (cm_R σ x0 0)] σ (qi fun r1 σ1 => Q (false, .int r1, σ1))) : wp_c d 116 [.ref x0] σ Q :=
  wc_in (by omega) rfl rfl (L := [.ref x0]) rfl (have hd : 1 ≤ d - 1 := (by omega); (wr_aload_n rfl rfl rfl (wr_gfR rfl rfl (by decide) h0.1 (wr_invfi rfl hd rfl (fun _ => rfl) rfl (cr_dt rfl h0.2.1) rfl (wm_i h0.2.2 fun r1 σ1 h1 => (wr_ireturn rfl rfl h1))))))
/-- SpreadsheetEngine$RangeName.<init>(Ljava/lang/String;II)V : labels [] -/
theorem k446 {d : Nat} {x0 : Nat} {x1 : Nat} {x2 : Int32} {x3 : Int32} {σ : cm_S} {Q : cm_O → Prop} (hd : 2 ≤ d) (h0 : cm_tg σ x0 ≠ 0 ∧
cm_tg σ x0 = 23 ∧
cm_K cp ≤ x0 ∧
(∀ σ1, σ1 = cm_pR σ x0 0 x1 → 
∀ σ2, σ2 = cm_pI σ1 x0 1 x2 → 
∀ σ3, σ3 = cm_pI σ2 x0 2 x3 → 
Q (false, .int 0, σ3))) : wp_c d 446 [.ref x0, .ref x1, .int x2, .int x3] σ Q :=
  wc_in (by omega) rfl rfl (L := [.ref x0, .ref x1, .int x2, .int x3]) rfl (have hd : 1 ≤ d - 1 := (by omega); (wr_aload_n rfl rfl rfl (wr_objinit rfl hd rfl rfl h0.1 (wr_aload_n rfl rfl rfl (wr_aload_n rfl rfl rfl (wr_pfR rfl rfl (by decide) h0.2.1 h0.2.2.1 (wr_aload_n rfl rfl rfl (wr_iload_n rfl rfl rfl (wr_pfI rfl rfl (by decide) ⟨by decide, by decide⟩ h0.2.1 h0.2.2.1 rfl (wr_aload_n rfl rfl rfl (wr_iload_n rfl rfl rfl (wr_pfI rfl rfl (by decide) ⟨by decide, by decide⟩ h0.2.1 h0.2.2.1 rfl (wr_return rfl (((h0.2.2.2 _ rfl) _ rfl) _ rfl))))))))))))))
/-- SpreadsheetEngine$RangeName.isLost()Z : labels [] -/
theorem k447 {d : Nat} {x0 : Nat} {σ : cm_S} {Q : cm_O → Prop} (hd : 1 ≤ d) (h0 : cm_tg σ x0 = 23 ∧
((cm_I σ x0 1) < (zi 0) → (Q (false, .int (zi 1), σ))) ∧
(¬ (cm_I σ x0 1) < (zi 0) → (Q (false, .int (zi 0), σ)))) : wp_c d 447 [.ref x0] σ Q :=
  wc_in (by omega) rfl rfl (L := [.ref x0]) rfl ((wr_aload_n rfl rfl rfl (wr_gfI rfl rfl (by decide) ⟨by decide, by decide⟩ h0.1 (wr_if_ge rfl rfl (cr_ii h0.2 (fun c1 h2 => (wr_iconst rfl rfl (wr_goto rfl (wr_ireturn rfl (by decide) h2)))) (fun c3 h4 => (wr_iconst rfl rfl (wr_ireturn rfl (by decide) h4))))))))
/-- SpreadsheetEngine$RangeName.text()Ljava/lang/String; : labels [] -/
theorem k448 {d : Nat} {x0 : Nat} {σ : cm_S} {Q : cm_O → Prop} (hd : 1 ≤ d) (h0 : cm_tg σ x0 = 23 ∧
Q (false, .ref (cm_R σ x0 0), σ)) : wp_c d 448 [.ref x0] σ Q :=
  wc_in (by omega) rfl rfl (L := [.ref x0]) rfl ((wr_aload_n rfl rfl rfl (wr_gfR rfl rfl (by decide) h0.1 (wr_areturn rfl h0.2))))
/-- SpreadsheetEngine$Content.<init>(JLSpreadsheetEngine$Node;)V : labels [] -/
theorem k335 {d : Nat} {x0 : Nat} {x1 : Int64} {x3 : Nat} {σ : cm_S} {Q : cm_O → Prop} (hd : 2 ≤ d) (h0 : cm_tg σ x0 ≠ 0 ∧
cm_tg σ x0 = 9 ∧
cm_K cp ≤ x0 ∧
(∀ σ1, σ1 = cm_pL σ x0 0 x1 → 
∀ σ2, σ2 = cm_pR σ1 x0 1 x3 → 
Q (false, .int 0, σ2))) : wp_c d 335 [.ref x0, .long x1, .ref x3] σ Q :=
  wc_in (by omega) rfl rfl (L := [.ref x0, .long x1, .retAddr 0, .ref x3]) rfl (have hd : 1 ≤ d - 1 := (by omega); (wr_aload_n rfl rfl rfl (wr_objinit rfl hd rfl rfl h0.1 (wr_aload_n rfl rfl rfl (wr_lload_n rfl rfl rfl rfl (wr_pfL rfl rfl (by decide) h0.2.1 h0.2.2.1 (wr_aload_n rfl rfl rfl (wr_aload_n rfl rfl rfl (wr_pfR rfl rfl (by decide) h0.2.1 h0.2.2.1 (wr_return rfl ((h0.2.2.2 _ rfl) _ rfl)))))))))))
/-- SpreadsheetEngine$Content.isFormula()Z : labels [] -/
theorem k336 {d : Nat} {x0 : Nat} {σ : cm_S} {Q : cm_O → Prop} (hd : 1 ≤ d) (h0 : cm_tg σ x0 = 9 ∧
((cm_R σ x0 1) = 0 → (Q (false, .int (zi 0), σ))) ∧
(¬ (cm_R σ x0 1) = 0 → (Q (false, .int (zi 1), σ)))) : wp_c d 336 [.ref x0] σ Q :=
  wc_in (by omega) rfl rfl (L := [.ref x0]) rfl ((wr_aload_n rfl rfl rfl (wr_gfR rfl rfl (by decide) h0.1 (wr_ifnull rfl rfl (cr_ii h0.2 (fun c1 h2 => (wr_iconst rfl rfl (wr_ireturn rfl (by decide) h2))) (fun c3 h4 => (wr_iconst rfl rfl (wr_goto rfl (wr_ireturn rfl (by decide) h4)))))))))
/-- SpreadsheetEngine$Literal.accept(LSpreadsheetEngine$Visitor;)Ljava/lang/Object; : labels [] -/
theorem k365 {d : Nat} {x0 : Nat} {x1 : Nat} {σ : cm_S} {Q : cm_O → Prop} (hd : 2 ≤ d) (h0 : ∃ mm, cp_disp 256 (cm_tg σ x1) = some mm ∧ cm_rk cp mm = 3 ∧
wp_c (d - 1) mm [.ref x1, .ref x0] σ (qr fun r1 σ1 => Q (false, .ref r1, σ1))) : wp_c d 365 [.ref x0, .ref x1] σ Q :=
  wc_in (by omega) rfl rfl (L := [.ref x0, .ref x1]) rfl (have hd : 1 ≤ d - 1 := (by omega); (wr_aload_n rfl rfl rfl (wr_aload_n rfl rfl rfl (wr_invfr rfl hd rfl (fun _ => rfl) rfl h0.choose_spec.1 h0.choose_spec.2.1 (wm_r h0.choose_spec.2.2 fun r1 σ1 h1 => (wr_areturn rfl h1))))))
/-- SpreadsheetEngine$Literal.<init>(I)V : labels [] -/
theorem k366 {d : Nat} {x0 : Nat} {x1 : Int32} {σ : cm_S} {Q : cm_O → Prop} (hd : 2 ≤ d) (h0 : (cm_tg σ x0 ≠ 0 ∧ cm_tg σ x0 < 60) ∧
wp_c (d - 1) 363 [.ref x0] σ (qv fun σ1 => cm_tg σ1 x0 = 11 ∧
cm_K cp ≤ x0 ∧
(∀ σ2, σ2 = cm_pI σ1 x0 0 x1 → 
Q (false, .int 0, σ2)))) : wp_c d 366 [.ref x0, .int x1] σ Q :=
  wc_in (by omega) rfl rfl (L := [.ref x0, .int x1]) rfl (have hd : 1 ≤ d - 1 := (by omega); (wr_aload_n rfl rfl rfl (wr_invpv rfl hd rfl (fun _ => rfl) rfl h0.1 rfl (wm_v h0.2 fun σ1 h1 => (wr_aload_n rfl rfl rfl (wr_iload_n rfl rfl rfl (wr_pfI rfl rfl (by decide) ⟨by decide, by decide⟩ h1.1 h1.2.1 rfl (wr_return rfl (h1.2.2 _ rfl)))))))))
/-- SpreadsheetEngine$Reference.accept(LSpreadsheetEngine$Visitor;)Ljava/lang/Object; : labels [] -/
theorem k379 {d : Nat} {x0 : Nat} {x1 : Nat} {σ : cm_S} {Q : cm_O → Prop} (hd : 2 ≤ d) (h0 : ∃ mm, cp_disp 260 (cm_tg σ x1) = some mm ∧ cm_rk cp mm = 3 ∧
wp_c (d - 1) mm [.ref x1, .ref x0] σ (qr fun r1 σ1 => Q (false, .ref r1, σ1))) : wp_c d 379 [.ref x0, .ref x1] σ Q :=
  wc_in (by omega) rfl rfl (L := [.ref x0, .ref x1]) rfl (have hd : 1 ≤ d - 1 := (by omega); (wr_aload_n rfl rfl rfl (wr_aload_n rfl rfl rfl (wr_invfr rfl hd rfl (fun _ => rfl) rfl h0.choose_spec.1 h0.choose_spec.2.1 (wm_r h0.choose_spec.2.2 fun r1 σ1 h1 => (wr_areturn rfl h1))))))
/-- SpreadsheetEngine$Reference.at(II)LSpreadsheetEngine$Reference; : labels [] -/
theorem k380 {d : Nat} {x0 : Nat} {x1 : Int32} {x2 : Int32} {σ : cm_S} {Q : cm_O → Prop} (hd : 2 ≤ d) (h0 : ∀ σ1, σ1 = cm_al σ 15 4 → 
cm_tg σ1 x0 = 15 ∧
wp_c (d - 1) 382 [.ref (cm_nx σ), .int x1, .int x2, .int (cm_I σ1 x0 2), .int (cm_I σ1 x0 3)] σ1 (qv fun σ2 => Q (false, .ref (cm_nx σ), σ2))) : wp_c d 380 [.ref x0, .int x1, .int x2] σ Q :=
  wc_in (by omega) rfl rfl (L := [.ref x0, .int x1, .int x2]) rfl (have hd : 1 ≤ d - 1 := (by omega); (wr_new rfl rfl (wr_dup rfl rfl rfl (wr_iload_n rfl rfl rfl (wr_iload_n rfl rfl rfl (wr_aload_n rfl rfl rfl (wr_gfI rfl rfl (by decide) ⟨by decide, by decide⟩ (h0 _ rfl).1 (wr_aload_n rfl rfl rfl (wr_gfI rfl rfl (by decide) ⟨by decide, by decide⟩ (h0 _ rfl).1 (wr_invpv rfl hd rfl (fun _ => rfl) rfl (cr_60 (tg_new _ _ _) rfl) rfl (wm_v (h0 _ rfl).2 fun σ2 h1 => (wr_areturn rfl h1))))))))))))
/-- SpreadsheetEngine$Reference.cell()I : labels [] -/
theorem k381 {d : Nat} {x0 : Nat} {σ : cm_S} {Q : cm_O → Prop} (hd : 1 ≤ d) (h0 : cm_tg σ x0 = 15 ∧
Q (false, .int (((zi 12) * (cm_I σ x0 1)) + (cm_I σ x0 0)), σ)) : wp_c d 381 [.ref x0] σ Q :=
  wc_in (by omega) rfl rfl (L := [.ref x0]) rfl ((wr_bipush (a := zi 12) rfl rfl rfl (wr_aload_n rfl rfl rfl (wr_gfI rfl rfl (by decide) ⟨by decide, by decide⟩ h0.1 (wr_imul rfl rfl (wr_aload_n rfl rfl rfl (wr_gfI rfl rfl (by decide) ⟨by decide, by decide⟩ h0.1 (wr_iadd rfl rfl (wr_ireturn rfl rfl h0.2)))))))))
/-- SpreadsheetEngine$Reference.<init>(IIZZ)V : labels [] -/
theorem k382 {d : Nat} {x0 : Nat} {x1 : Int32} {x2 : Int32} {x3 : Int32} {x4 : Int32} {σ : cm_S} {Q : cm_O → Prop} (hd : 2 ≤ d) (h0 : (cm_tg σ x0 ≠ 0 ∧ cm_tg σ x0 < 60) ∧
wp_c (d - 1) 363 [.ref x0] σ (qv fun σ1 => cm_tg σ1 x0 = 15 ∧
cm_K cp ≤ x0 ∧
(∀ σ2, σ2 = cm_pI σ1 x0 0 x1 → 
∀ σ3, σ3 = cm_pI σ2 x0 1 x2 → 
cm_fit 3 x3 = true ∧
(∀ σ4, σ4 = cm_pI σ3 x0 2 x3 → 
cm_fit 3 x4 = true ∧
(∀ σ5, σ5 = cm_pI σ4 x0 3 x4 → 
Q (false, .int 0, σ5)))))) : wp_c d 382 [.ref x0, .int x1, .int x2, .int x3, .int x4] σ Q :=
  wc_in (by omega) rfl rfl (L := [.ref x0, .int x1, .int x2, .int x3, .int x4]) rfl (have hd : 1 ≤ d - 1 := (by omega); (wr_aload_n rfl rfl rfl (wr_invpv rfl hd rfl (fun _ => rfl) rfl h0.1 rfl (wm_v h0.2 fun σ1 h1 => (wr_aload_n rfl rfl rfl (wr_iload_n rfl rfl rfl (wr_pfI rfl rfl (by decide) ⟨by decide, by decide⟩ h1.1 h1.2.1 rfl (wr_aload_n rfl rfl rfl (wr_iload_n rfl rfl rfl (wr_pfI rfl rfl (by decide) ⟨by decide, by decide⟩ h1.1 h1.2.1 rfl (wr_aload_n rfl rfl rfl (wr_iload_n rfl rfl rfl (wr_pfI rfl rfl (by decide) ⟨by decide, by decide⟩ h1.1 h1.2.1 ((h1.2.2 _ rfl) _ rfl).1 (wr_aload_n rfl rfl rfl (wr_iload rfl rfl rfl (wr_pfI rfl rfl (by decide) ⟨by decide, by decide⟩ h1.1 h1.2.1 (((h1.2.2 _ rfl) _ rfl).2 _ rfl).1 (wr_return rfl ((((h1.2.2 _ rfl) _ rfl).2 _ rfl).2 _ rfl))))))))))))))))))
/-- SpreadsheetEngine$Reference.isArea()Z : labels [] -/
theorem k383 {d : Nat} {x0 : Nat} {σ : cm_S} {Q : cm_O → Prop} (hd : 1 ≤ d) (h0 : Q (false, .int (zi 1), σ)) : wp_c d 383 [.ref x0] σ Q :=
  wc_in (by omega) rfl rfl (L := [.ref x0]) rfl ((wr_iconst rfl rfl (wr_ireturn rfl (by decide) h0)))
/-- SpreadsheetEngine$Reference.isOnSheet()Z : labels [] -/
theorem k384 {d : Nat} {x0 : Nat} {σ : cm_S} {Q : cm_O → Prop} (hd : 2 ≤ d) (h0 : cm_tg σ x0 = 15 ∧
wp_c (d - 1) 38 [.int (cm_I σ x0 0), .int (zi 0), .int (zi 11)] σ (qi fun r1 σ1 => (r1 = (zi 0) → (Q (false, .int (zi 0), σ1))) ∧
(¬ r1 = (zi 0) → (cm_tg σ1 x0 = 15 ∧
wp_c (d - 1) 38 [.int (cm_I σ1 x0 1), .int (zi 0), .int (zi 19)] σ1 (qi fun r2 σ2 => (r2 = (zi 0) → (Q (false, .int (zi 0), σ2))) ∧
(¬ r2 = (zi 0) → (Q (false, .int (zi 1), σ2)))))))) : wp_c d 384 [.ref x0] σ Q :=
  wc_in (by omega) rfl rfl (L := [.ref x0]) rfl (have hd : 1 ≤ d - 1 := (by omega); (wr_aload_n rfl rfl rfl (wr_gfI rfl rfl (by decide) ⟨by decide, by decide⟩ h0.1 (wr_iconst rfl rfl (wr_bipush (a := zi 11) rfl rfl rfl (wr_invsi rfl hd rfl (fun _ => rfl) rfl rfl (wm_i h0.2 fun r1 σ1 h1 => (wr_if_eq rfl rfl (cr_ii h1 (fun c2 h3 => (wr_iconst rfl rfl (wr_ireturn rfl (by decide) h3))) (fun c4 h5 => (wr_aload_n rfl rfl rfl (wr_gfI rfl rfl (by decide) ⟨by decide, by decide⟩ h5.1 (wr_iconst rfl rfl (wr_bipush (a := zi 19) rfl rfl rfl (wr_invsi rfl hd rfl (fun _ => rfl) rfl rfl (wm_i h5.2 fun r2 σ2 h6 => (wr_if_eq rfl rfl (cr_ii h6 (fun c7 h8 => (wr_iconst rfl rfl (wr_ireturn rfl (by decide) h8))) (fun c9 h10 => (wr_iconst rfl rfl (wr_goto rfl (wr_ireturn rfl (by decide) h10))))))))))))))))))))))
/-- SpreadsheetEngine$Broken.accept(LSpreadsheetEngine$Visitor;)Ljava/lang/Object; : labels [] -/
theorem k376 {d : Nat} {x0 : Nat} {x1 : Nat} {σ : cm_S} {Q : cm_O → Prop} (hd : 2 ≤ d) (h0 : ∃ mm, cp_disp 259 (cm_tg σ x1) = some mm ∧ cm_rk cp mm = 3 ∧
wp_c (d - 1) mm [.ref x1, .ref x0] σ (qr fun r1 σ1 => Q (false, .ref r1, σ1))) : wp_c d 376 [.ref x0, .ref x1] σ Q :=
  wc_in (by omega) rfl rfl (L := [.ref x0, .ref x1]) rfl (have hd : 1 ≤ d - 1 := (by omega); (wr_aload_n rfl rfl rfl (wr_aload_n rfl rfl rfl (wr_invfr rfl hd rfl (fun _ => rfl) rfl h0.choose_spec.1 h0.choose_spec.2.1 (wm_r h0.choose_spec.2.2 fun r1 σ1 h1 => (wr_areturn rfl h1))))))
/-- SpreadsheetEngine$Broken.<init>()V : labels [] -/
theorem k377 {d : Nat} {x0 : Nat} {σ : cm_S} {Q : cm_O → Prop} (hd : 2 ≤ d) (h0 : (cm_tg σ x0 ≠ 0 ∧ cm_tg σ x0 < 60) ∧
wp_c (d - 1) 363 [.ref x0] σ (qv fun σ1 => Q (false, .int 0, σ1))) : wp_c d 377 [.ref x0] σ Q :=
  wc_in (by omega) rfl rfl (L := [.ref x0]) rfl (have hd : 1 ≤ d - 1 := (by omega); (wr_aload_n rfl rfl rfl (wr_invpv rfl hd rfl (fun _ => rfl) rfl h0.1 rfl (wm_v h0.2 fun σ1 h1 => (wr_return rfl h1)))))
/-- SpreadsheetEngine$Broken.isArea()Z : labels [] -/
theorem k378 {d : Nat} {x0 : Nat} {σ : cm_S} {Q : cm_O → Prop} (hd : 1 ≤ d) (h0 : Q (false, .int (zi 1), σ)) : wp_c d 378 [.ref x0] σ Q :=
  wc_in (by omega) rfl rfl (L := [.ref x0]) rfl ((wr_iconst rfl rfl (wr_ireturn rfl (by decide) h0)))
/-- SpreadsheetEngine$Name.accept(LSpreadsheetEngine$Visitor;)Ljava/lang/Object; : labels [] -/
theorem k373 {d : Nat} {x0 : Nat} {x1 : Nat} {σ : cm_S} {Q : cm_O → Prop} (hd : 2 ≤ d) (h0 : ∃ mm, cp_disp 258 (cm_tg σ x1) = some mm ∧ cm_rk cp mm = 3 ∧
wp_c (d - 1) mm [.ref x1, .ref x0] σ (qr fun r1 σ1 => Q (false, .ref r1, σ1))) : wp_c d 373 [.ref x0, .ref x1] σ Q :=
  wc_in (by omega) rfl rfl (L := [.ref x0, .ref x1]) rfl (have hd : 1 ≤ d - 1 := (by omega); (wr_aload_n rfl rfl rfl (wr_aload_n rfl rfl rfl (wr_invfr rfl hd rfl (fun _ => rfl) rfl h0.choose_spec.1 h0.choose_spec.2.1 (wm_r h0.choose_spec.2.2 fun r1 σ1 h1 => (wr_areturn rfl h1))))))
/-- SpreadsheetEngine$Name.<init>(Ljava/lang/String;)V : labels [] -/
theorem k374 {d : Nat} {x0 : Nat} {x1 : Nat} {σ : cm_S} {Q : cm_O → Prop} (hd : 2 ≤ d) (h0 : (cm_tg σ x0 ≠ 0 ∧ cm_tg σ x0 < 60) ∧
wp_c (d - 1) 363 [.ref x0] σ (qv fun σ1 => cm_tg σ1 x0 = 13 ∧
cm_K cp ≤ x0 ∧
(∀ σ2, σ2 = cm_pR σ1 x0 0 x1 → 
Q (false, .int 0, σ2)))) : wp_c d 374 [.ref x0, .ref x1] σ Q :=
  wc_in (by omega) rfl rfl (L := [.ref x0, .ref x1]) rfl (have hd : 1 ≤ d - 1 := (by omega); (wr_aload_n rfl rfl rfl (wr_invpv rfl hd rfl (fun _ => rfl) rfl h0.1 rfl (wm_v h0.2 fun σ1 h1 => (wr_aload_n rfl rfl rfl (wr_aload_n rfl rfl rfl (wr_pfR rfl rfl (by decide) h1.1 h1.2.1 (wr_return rfl (h1.2.2 _ rfl)))))))))
/-- SpreadsheetEngine$Name.isArea()Z : labels [] -/
theorem k375 {d : Nat} {x0 : Nat} {σ : cm_S} {Q : cm_O → Prop} (hd : 1 ≤ d) (h0 : Q (false, .int (zi 1), σ)) : wp_c d 375 [.ref x0] σ Q :=
  wc_in (by omega) rfl rfl (L := [.ref x0]) rfl ((wr_iconst rfl rfl (wr_ireturn rfl (by decide) h0)))
/-- SpreadsheetEngine$Range.accept(LSpreadsheetEngine$Visitor;)Ljava/lang/Object; : labels [] -/
theorem k385 {d : Nat} {x0 : Nat} {x1 : Nat} {σ : cm_S} {Q : cm_O → Prop} (hd : 2 ≤ d) (h0 : ∃ mm, cp_disp 261 (cm_tg σ x1) = some mm ∧ cm_rk cp mm = 3 ∧
wp_c (d - 1) mm [.ref x1, .ref x0] σ (qr fun r1 σ1 => Q (false, .ref r1, σ1))) : wp_c d 385 [.ref x0, .ref x1] σ Q :=
  wc_in (by omega) rfl rfl (L := [.ref x0, .ref x1]) rfl (have hd : 1 ≤ d - 1 := (by omega); (wr_aload_n rfl rfl rfl (wr_aload_n rfl rfl rfl (wr_invfr rfl hd rfl (fun _ => rfl) rfl h0.choose_spec.1 h0.choose_spec.2.1 (wm_r h0.choose_spec.2.2 fun r1 σ1 h1 => (wr_areturn rfl h1))))))
/-- SpreadsheetEngine$Range.<init>(LSpreadsheetEngine$Reference;LSpreadsheetEngine$Reference;)V : labels [] -/
theorem k386 {d : Nat} {x0 : Nat} {x1 : Nat} {x2 : Nat} {σ : cm_S} {Q : cm_O → Prop} (hd : 2 ≤ d) (h0 : (cm_tg σ x0 ≠ 0 ∧ cm_tg σ x0 < 60) ∧
wp_c (d - 1) 363 [.ref x0] σ (qv fun σ1 => cm_tg σ1 x0 = 16 ∧
cm_K cp ≤ x0 ∧
(∀ σ2, σ2 = cm_pR σ1 x0 0 x1 → 
∀ σ3, σ3 = cm_pR σ2 x0 1 x2 → 
Q (false, .int 0, σ3)))) : wp_c d 386 [.ref x0, .ref x1, .ref x2] σ Q :=
  wc_in (by omega) rfl rfl (L := [.ref x0, .ref x1, .ref x2]) rfl (have hd : 1 ≤ d - 1 := (by omega); (wr_aload_n rfl rfl rfl (wr_invpv rfl hd rfl (fun _ => rfl) rfl h0.1 rfl (wm_v h0.2 fun σ1 h1 => (wr_aload_n rfl rfl rfl (wr_aload_n rfl rfl rfl (wr_pfR rfl rfl (by decide) h1.1 h1.2.1 (wr_aload_n rfl rfl rfl (wr_aload_n rfl rfl rfl (wr_pfR rfl rfl (by decide) h1.1 h1.2.1 (wr_return rfl ((h1.2.2 _ rfl) _ rfl))))))))))))
/-- SpreadsheetEngine$Range.isArea()Z : labels [] -/
theorem k387 {d : Nat} {x0 : Nat} {σ : cm_S} {Q : cm_O → Prop} (hd : 1 ≤ d) (h0 : Q (false, .int (zi 1), σ)) : wp_c d 387 [.ref x0] σ Q :=
  wc_in (by omega) rfl rfl (L := [.ref x0]) rfl ((wr_iconst rfl rfl (wr_ireturn rfl (by decide) h0)))
/-- SpreadsheetEngine$Binary.accept(LSpreadsheetEngine$Visitor;)Ljava/lang/Object; : labels [] -/
theorem k392 {d : Nat} {x0 : Nat} {x1 : Nat} {σ : cm_S} {Q : cm_O → Prop} (hd : 2 ≤ d) (h0 : ∃ mm, cp_disp 264 (cm_tg σ x1) = some mm ∧ cm_rk cp mm = 3 ∧
wp_c (d - 1) mm [.ref x1, .ref x0] σ (qr fun r1 σ1 => Q (false, .ref r1, σ1))) : wp_c d 392 [.ref x0, .ref x1] σ Q :=
  wc_in (by omega) rfl rfl (L := [.ref x0, .ref x1]) rfl (have hd : 1 ≤ d - 1 := (by omega); (wr_aload_n rfl rfl rfl (wr_aload_n rfl rfl rfl (wr_invfr rfl hd rfl (fun _ => rfl) rfl h0.choose_spec.1 h0.choose_spec.2.1 (wm_r h0.choose_spec.2.2 fun r1 σ1 h1 => (wr_areturn rfl h1))))))
/-- SpreadsheetEngine$Binary.<init>(Ljava/lang/String;LSpreadsheetEngine$Node;LSpreadsheetEngine$Node;)V : labels [] -/
theorem k393 {d : Nat} {x0 : Nat} {x1 : Nat} {x2 : Nat} {x3 : Nat} {σ : cm_S} {Q : cm_O → Prop} (hd : 2 ≤ d) (h0 : (cm_tg σ x0 ≠ 0 ∧ cm_tg σ x0 < 60) ∧
wp_c (d - 1) 363 [.ref x0] σ (qv fun σ1 => cm_tg σ1 x0 = 19 ∧
cm_K cp ≤ x0 ∧
(∀ σ2, σ2 = cm_pR σ1 x0 0 x1 → 
∀ σ3, σ3 = cm_pR σ2 x0 1 x2 → 
∀ σ4, σ4 = cm_pR σ3 x0 2 x3 → 
Q (false, .int 0, σ4)))) : wp_c d 393 [.ref x0, .ref x1, .ref x2, .ref x3] σ Q :=
  wc_in (by omega) rfl rfl (L := [.ref x0, .ref x1, .ref x2, .ref x3]) rfl (have hd : 1 ≤ d - 1 := (by omega); (wr_aload_n rfl rfl rfl (wr_invpv rfl hd rfl (fun _ => rfl) rfl h0.1 rfl (wm_v h0.2 fun σ1 h1 => (wr_aload_n rfl rfl rfl (wr_aload_n rfl rfl rfl (wr_pfR rfl rfl (by decide) h1.1 h1.2.1 (wr_aload_n rfl rfl rfl (wr_aload_n rfl rfl rfl (wr_pfR rfl rfl (by decide) h1.1 h1.2.1 (wr_aload_n rfl rfl rfl (wr_aload_n rfl rfl rfl (wr_pfR rfl rfl (by decide) h1.1 h1.2.1 (wr_return rfl (((h1.2.2 _ rfl) _ rfl) _ rfl)))))))))))))))
/-- SpreadsheetEngine$Negation.accept(LSpreadsheetEngine$Visitor;)Ljava/lang/Object; : labels [] -/
theorem k390 {d : Nat} {x0 : Nat} {x1 : Nat} {σ : cm_S} {Q : cm_O → Prop} (hd : 2 ≤ d) (h0 : ∃ mm, cp_disp 263 (cm_tg σ x1) = some mm ∧ cm_rk cp mm = 3 ∧
wp_c (d - 1) mm [.ref x1, .ref x0] σ (qr fun r1 σ1 => Q (false, .ref r1, σ1))) : wp_c d 390 [.ref x0, .ref x1] σ Q :=
  wc_in (by omega) rfl rfl (L := [.ref x0, .ref x1]) rfl (have hd : 1 ≤ d - 1 := (by omega); (wr_aload_n rfl rfl rfl (wr_aload_n rfl rfl rfl (wr_invfr rfl hd rfl (fun _ => rfl) rfl h0.choose_spec.1 h0.choose_spec.2.1 (wm_r h0.choose_spec.2.2 fun r1 σ1 h1 => (wr_areturn rfl h1))))))
/-- SpreadsheetEngine$Negation.<init>(LSpreadsheetEngine$Node;)V : labels [] -/
theorem k391 {d : Nat} {x0 : Nat} {x1 : Nat} {σ : cm_S} {Q : cm_O → Prop} (hd : 2 ≤ d) (h0 : (cm_tg σ x0 ≠ 0 ∧ cm_tg σ x0 < 60) ∧
wp_c (d - 1) 363 [.ref x0] σ (qv fun σ1 => cm_tg σ1 x0 = 18 ∧
cm_K cp ≤ x0 ∧
(∀ σ2, σ2 = cm_pR σ1 x0 0 x1 → 
Q (false, .int 0, σ2)))) : wp_c d 391 [.ref x0, .ref x1] σ Q :=
  wc_in (by omega) rfl rfl (L := [.ref x0, .ref x1]) rfl (have hd : 1 ≤ d - 1 := (by omega); (wr_aload_n rfl rfl rfl (wr_invpv rfl hd rfl (fun _ => rfl) rfl h0.1 rfl (wm_v h0.2 fun σ1 h1 => (wr_aload_n rfl rfl rfl (wr_aload_n rfl rfl rfl (wr_pfR rfl rfl (by decide) h1.1 h1.2.1 (wr_return rfl (h1.2.2 _ rfl)))))))))
/-- SpreadsheetEngine$Parentheses.accept(LSpreadsheetEngine$Visitor;)Ljava/lang/Object; : labels [] -/
theorem k367 {d : Nat} {x0 : Nat} {x1 : Nat} {σ : cm_S} {Q : cm_O → Prop} (hd : 2 ≤ d) (h0 : ∃ mm, cp_disp 257 (cm_tg σ x1) = some mm ∧ cm_rk cp mm = 3 ∧
wp_c (d - 1) mm [.ref x1, .ref x0] σ (qr fun r1 σ1 => Q (false, .ref r1, σ1))) : wp_c d 367 [.ref x0, .ref x1] σ Q :=
  wc_in (by omega) rfl rfl (L := [.ref x0, .ref x1]) rfl (have hd : 1 ≤ d - 1 := (by omega); (wr_aload_n rfl rfl rfl (wr_aload_n rfl rfl rfl (wr_invfr rfl hd rfl (fun _ => rfl) rfl h0.choose_spec.1 h0.choose_spec.2.1 (wm_r h0.choose_spec.2.2 fun r1 σ1 h1 => (wr_areturn rfl h1))))))
/-- SpreadsheetEngine$Parentheses.<init>(LSpreadsheetEngine$Node;)V : labels [] -/
theorem k368 {d : Nat} {x0 : Nat} {x1 : Nat} {σ : cm_S} {Q : cm_O → Prop} (hd : 2 ≤ d) (h0 : (cm_tg σ x0 ≠ 0 ∧ cm_tg σ x0 < 60) ∧
wp_c (d - 1) 363 [.ref x0] σ (qv fun σ1 => cm_tg σ1 x0 = 12 ∧
cm_K cp ≤ x0 ∧
(∀ σ2, σ2 = cm_pR σ1 x0 0 x1 → 
Q (false, .int 0, σ2)))) : wp_c d 368 [.ref x0, .ref x1] σ Q :=
  wc_in (by omega) rfl rfl (L := [.ref x0, .ref x1]) rfl (have hd : 1 ≤ d - 1 := (by omega); (wr_aload_n rfl rfl rfl (wr_invpv rfl hd rfl (fun _ => rfl) rfl h0.1 rfl (wm_v h0.2 fun σ1 h1 => (wr_aload_n rfl rfl rfl (wr_aload_n rfl rfl rfl (wr_pfR rfl rfl (by decide) h1.1 h1.2.1 (wr_return rfl (h1.2.2 _ rfl)))))))))
/-- SpreadsheetEngine$Call.accept(LSpreadsheetEngine$Visitor;)Ljava/lang/Object; : labels [] -/
theorem k388 {d : Nat} {x0 : Nat} {x1 : Nat} {σ : cm_S} {Q : cm_O → Prop} (hd : 2 ≤ d) (h0 : ∃ mm, cp_disp 262 (cm_tg σ x1) = some mm ∧ cm_rk cp mm = 3 ∧
wp_c (d - 1) mm [.ref x1, .ref x0] σ (qr fun r1 σ1 => Q (false, .ref r1, σ1))) : wp_c d 388 [.ref x0, .ref x1] σ Q :=
  wc_in (by omega) rfl rfl (L := [.ref x0, .ref x1]) rfl (have hd : 1 ≤ d - 1 := (by omega); (wr_aload_n rfl rfl rfl (wr_aload_n rfl rfl rfl (wr_invfr rfl hd rfl (fun _ => rfl) rfl h0.choose_spec.1 h0.choose_spec.2.1 (wm_r h0.choose_spec.2.2 fun r1 σ1 h1 => (wr_areturn rfl h1))))))
/-- SpreadsheetEngine$Call.<init>(LSpreadsheetEngine$Function;Ljava/util/List;)V : labels [] -/
theorem k389 {d : Nat} {x0 : Nat} {x1 : Nat} {x2 : Nat} {σ : cm_S} {Q : cm_O → Prop} (hd : 2 ≤ d) (h0 : (cm_tg σ x0 ≠ 0 ∧ cm_tg σ x0 < 60) ∧
wp_c (d - 1) 363 [.ref x0] σ (qv fun σ1 => cm_tg σ1 x0 = 17 ∧
cm_K cp ≤ x0 ∧
(∀ σ2, σ2 = cm_pR σ1 x0 0 x1 → 
∀ σ3, σ3 = cm_pR σ2 x0 1 x2 → 
Q (false, .int 0, σ3)))) : wp_c d 389 [.ref x0, .ref x1, .ref x2] σ Q :=
  wc_in (by omega) rfl rfl (L := [.ref x0, .ref x1, .ref x2]) rfl (have hd : 1 ≤ d - 1 := (by omega); (wr_aload_n rfl rfl rfl (wr_invpv rfl hd rfl (fun _ => rfl) rfl h0.1 rfl (wm_v h0.2 fun σ1 h1 => (wr_aload_n rfl rfl rfl (wr_aload_n rfl rfl rfl (wr_pfR rfl rfl (by decide) h1.1 h1.2.1 (wr_aload_n rfl rfl rfl (wr_aload_n rfl rfl rfl (wr_pfR rfl rfl (by decide) h1.1 h1.2.1 (wr_return rfl ((h1.2.2 _ rfl) _ rfl))))))))))))
/-- SpreadsheetEngine$Node.<init>()V : labels [] -/
theorem k363 {d : Nat} {x0 : Nat} {σ : cm_S} {Q : cm_O → Prop} (hd : 2 ≤ d) (h0 : cm_tg σ x0 ≠ 0 ∧
Q (false, .int 0, σ)) : wp_c d 363 [.ref x0] σ Q :=
  wc_in (by omega) rfl rfl (L := [.ref x0]) rfl (have hd : 1 ≤ d - 1 := (by omega); (wr_aload_n rfl rfl rfl (wr_objinit rfl hd rfl rfl h0.1 (wr_return rfl h0.2))))
/-- SpreadsheetEngine$Node.isArea()Z : labels [] -/
theorem k364 {d : Nat} {x0 : Nat} {σ : cm_S} {Q : cm_O → Prop} (hd : 1 ≤ d) (h0 : Q (false, .int (zi 0), σ)) : wp_c d 364 [.ref x0] σ Q :=
  wc_in (by omega) rfl rfl (L := [.ref x0]) rfl ((wr_iconst rfl rfl (wr_ireturn rfl (by decide) h0)))
/-- SpreadsheetEngine$Function.kind(I)I : labels [] -/
theorem k369 {d : Nat} {x0 : Nat} {x1 : Int32} {σ : cm_S} {Q : cm_O → Prop} (hd : 2 ≤ d) (h0 : cm_tg σ x0 = 60 ∧
wp_c (d - 1) 506 [.ref x0] σ (qi fun r1 σ1 => (r1.toInt < 4 ∨ 8 < r1.toInt → (Q (false, .int (zi 2), σ1))) ∧
(¬ (r1.toInt < 4 ∨ 8 < r1.toInt) → (r1.toInt = 4 → (Q (false, .int (zi 1), σ1))) ∧
(¬ r1.toInt = 4 → (r1.toInt = 5 → (Q (false, .int (zi 0), σ1))) ∧
(¬ r1.toInt = 5 → (r1.toInt = 6 → (Q (false, .int (zi 0), σ1))) ∧
(¬ r1.toInt = 6 → (r1.toInt = 7 → (Q (false, .int x1, σ1))) ∧
(¬ r1.toInt = 7 → (r1.toInt = 8 → (Q (false, .int ((zi 1) - x1), σ1))) ∧
(¬ r1.toInt = 8 → False)))))))) : wp_c d 369 [.ref x0, .int x1] σ Q :=
  wc_in (by omega) rfl rfl (L := [.ref x0, .int x1]) rfl (have hd : 1 ≤ d - 1 := (by omega); (wr_aload_n rfl rfl rfl (wr_invwi rfl hd rfl (fun _ => rfl) rfl (cr_dt rfl h0.1) rfl (wm_i h0.2 fun r1 σ1 h1 => (wr_table rfl (l := [36, 38, 38, 40, 42]) rfl (cr_ii h1 (fun _ h2 => ⟨by decide, (wr_iconst rfl rfl (wr_ireturn rfl rfl h2))⟩) (fun _ hz => (cr_ii hz (fun _ h3 => ⟨by decide, (wr_iconst rfl rfl (wr_ireturn rfl rfl h3))⟩) (fun _ hz0 => (cr_ii hz0 (fun _ h4 => ⟨by decide, (wr_iconst rfl rfl (wr_ireturn rfl rfl h4))⟩) (fun _ hz1 => (cr_ii hz1 (fun _ h5 => ⟨by decide, (wr_iconst rfl rfl (wr_ireturn rfl rfl h5))⟩) (fun _ hz2 => (cr_ii hz2 (fun _ h6 => ⟨by decide, (wr_iload_n rfl rfl rfl (wr_ireturn rfl rfl h6))⟩) (fun _ hz3 => (cr_ii hz3 (fun _ h7 => ⟨by decide, (wr_iconst rfl rfl (wr_iload_n rfl rfl rfl (wr_isub rfl rfl (wr_ireturn rfl rfl h7))))⟩) (fun _ hz4 => hz4)))))))))))))))))
/-- SpreadsheetEngine$Function.least()I : labels [] -/
theorem k370 {d : Nat} {x0 : Nat} {σ : cm_S} {Q : cm_O → Prop} (hd : 1 ≤ d) (h0 : cm_ac x0 6 ∧
(x0 = 6 → (Q (false, .int (zi 3), σ))) ∧
(¬ x0 = 6 → (cm_ac x0 8 ∧
(x0 = 8 → (Q (false, .int (zi 2), σ))) ∧
(¬ x0 = 8 → (cm_ac x0 9 ∧
(x0 = 9 → (Q (false, .int (zi 2), σ))) ∧
(¬ x0 = 9 → (Q (false, .int (zi 1), σ)))))))) : wp_c d 370 [.ref x0] σ Q :=
  wc_in (by omega) rfl rfl (L := [.ref x0]) rfl ((wr_aload_n rfl rfl rfl (wr_getstatic rfl (w := .ref 6) rfl rfl (wr_acmp_ne rfl rfl h0.1 (cr_ii h0.2 (fun c1 h2 => (wr_iconst rfl rfl (wr_goto rfl (wr_ireturn rfl rfl h2)))) (fun c3 h4 => (wr_aload_n rfl rfl rfl (wr_getstatic rfl (w := .ref 8) rfl rfl (wr_acmp_eq rfl rfl h4.1 (cr_ii h4.2 (fun c5 h6 => (wr_iconst rfl rfl (wr_goto rfl (wr_ireturn rfl rfl h6)))) (fun c7 h8 => (wr_aload_n rfl rfl rfl (wr_getstatic rfl (w := .ref 9) rfl rfl (wr_acmp_ne rfl rfl h8.1 (cr_ii h8.2 (fun c9 h10 => (wr_iconst rfl rfl (wr_goto rfl (wr_ireturn rfl rfl h10)))) (fun c11 h12 => (wr_iconst rfl rfl (wr_ireturn rfl rfl h12))))))))))))))))))
/-- SpreadsheetEngine$Function.most()I : labels [] -/
theorem k371 {d : Nat} {x0 : Nat} {σ : cm_S} {Q : cm_O → Prop} (hd : 2 ≤ d) (h0 : cm_ac x0 7 ∧
(x0 = 7 → (Q (false, .int (zi 1), σ))) ∧
(¬ x0 = 7 → (cm_tg σ x0 = 60 ∧
wp_c (d - 1) 370 [.ref x0] σ (qi fun r1 σ1 => (r1 = (zi 1) → (Q (false, .int (zi 8), σ1))) ∧
(¬ r1 = (zi 1) → (cm_tg σ1 x0 = 60 ∧
wp_c (d - 1) 370 [.ref x0] σ1 (qi fun r2 σ2 => Q (false, .int r2, σ2)))))))) : wp_c d 371 [.ref x0] σ Q :=
  wc_in (by omega) rfl rfl (L := [.ref x0]) rfl (have hd : 1 ≤ d - 1 := (by omega); (wr_aload_n rfl rfl rfl (wr_getstatic rfl (w := .ref 7) rfl rfl (wr_acmp_ne rfl rfl h0.1 (cr_ii h0.2 (fun c1 h2 => (wr_iconst rfl rfl (wr_goto rfl (wr_ireturn rfl rfl h2)))) (fun c3 h4 => (wr_aload_n rfl rfl rfl (wr_invwi rfl hd rfl (fun _ => rfl) rfl (cr_dt rfl h4.1) rfl (wm_i h4.2 fun r1 σ1 h5 => (wr_iconst rfl rfl (wr_icmp_ne rfl rfl (cr_ii h5 (fun c6 h7 => (wr_bipush (a := zi 8) rfl rfl rfl (wr_goto rfl (wr_ireturn rfl rfl h7)))) (fun c8 h9 => (wr_aload_n rfl rfl rfl (wr_invwi rfl hd rfl (fun _ => rfl) rfl (cr_dt rfl h9.1) rfl (wm_i h9.2 fun r2 σ2 h10 => (wr_ireturn rfl rfl h10)))))))))))))))))
/-- SpreadsheetEngine$Function.values()[LSpreadsheetEngine$Function; : labels [] -/
theorem k372 {d : Nat}  {σ : cm_S} {Q : cm_O → Prop} (hd : 2 ≤ d) (h0 : cm_tg σ 60 = 108 ∧ cm_ln σ 60 ≤ 60000000 ∧
(∀ σ1, σ1 = cm_cl σ 108 60 → 
((cm_nx σ) = 0 ∨ cp_cast 12 (cm_tg σ1 (cm_nx σ)) = some true) ∧
Q (false, .ref (cm_nx σ), σ1))) : wp_c d 372 [] σ Q :=
  wc_in (by omega) rfl rfl (L := []) rfl (have hd : 1 ≤ d - 1 := (by omega); (wr_getstatic rfl (w := .ref 60) rfl rfl (wr_clone rfl hd rfl rfl h0.1 rfl (Or.inr (Nat.le_of_ble_eq_true rfl)) h0.2.1 (wr_checkcast rfl rfl (h0.2.2 _ rfl).1 (wr_areturn rfl (h0.2.2 _ rfl).2)))))
/-- SpreadsheetEngine$Rewriter.binary(LSpreadsheetEngine$Binary;)Ljava/lang/Object; : labels [] -/
theorem k414 {d : Nat} {x0 : Nat} {x1 : Nat} {σ : cm_S} {Q : cm_O → Prop} (hd : 2 ≤ d) (h0 : ∃ mm, cp_disp 276 (cm_tg σ x0) = some mm ∧ cm_rk cp mm = 3 ∧
wp_c (d - 1) mm [.ref x0, .ref x1] σ (qr fun r1 σ1 => Q (false, .ref r1, σ1))) : wp_c d 414 [.ref x0, .ref x1] σ Q :=
  wc_in (by omega) rfl rfl (L := [.ref x0, .ref x1]) rfl (have hd : 1 ≤ d - 1 := (by omega); (wr_aload_n rfl rfl rfl (wr_aload_n rfl rfl rfl (wr_invwr rfl hd rfl (fun _ => rfl) rfl h0.choose_spec.1 h0.choose_spec.2.1 (wm_r h0.choose_spec.2.2 fun r1 σ1 h1 => (wr_areturn rfl h1))))))
/-- SpreadsheetEngine$Rewriter.binary(LSpreadsheetEngine$Binary;)LSpreadsheetEngine$Node; : labels [] -/
theorem k415 {d : Nat} {x0 : Nat} {x1 : Nat} {σ : cm_S} {Q : cm_O → Prop} (hd : 2 ≤ d) (h0 : ∀ σ1, σ1 = cm_al σ 19 3 → 
cm_tg σ1 x1 = 19 ∧
∃ mm, cp_disp 8 (cm_tg σ1 (cm_R σ1 x1 1)) = some mm ∧ cm_rk cp mm = 3 ∧
wp_c (d - 1) mm [.ref (cm_R σ1 x1 1), .ref x0] σ1 (qr fun r2 σ2 => (r2 = 0 ∨ cp_cast 0 (cm_tg σ2 r2) = some true) ∧
cm_tg σ2 x1 = 19 ∧
∃ mm, cp_disp 8 (cm_tg σ2 (cm_R σ2 x1 2)) = some mm ∧ cm_rk cp mm = 3 ∧
wp_c (d - 1) mm [.ref (cm_R σ2 x1 2), .ref x0] σ2 (qr fun r3 σ3 => (r3 = 0 ∨ cp_cast 0 (cm_tg σ3 r3) = some true) ∧
(cm_tg σ3 (cm_nx σ) ≠ 0 ∧ cm_tg σ3 (cm_nx σ) < 60) ∧
wp_c (d - 1) 393 [.ref (cm_nx σ), .ref (cm_R σ1 x1 0), .ref r2, .ref r3] σ3 (qv fun σ4 => Q (false, .ref (cm_nx σ), σ4))))) : wp_c d 415 [.ref x0, .ref x1] σ Q :=
  wc_in (by omega) rfl rfl (L := [.ref x0, .ref x1]) rfl (have hd : 1 ≤ d - 1 := (by omega); (wr_new rfl rfl (wr_dup rfl rfl rfl (wr_aload_n rfl rfl rfl (wr_gfR rfl rfl (by decide) (h0 _ rfl).1 (wr_aload_n rfl rfl rfl (wr_gfR rfl rfl (by decide) (h0 _ rfl).1 (wr_aload_n rfl rfl rfl (wr_invwr rfl hd rfl (fun _ => rfl) rfl (h0 _ rfl).2.choose_spec.1 (h0 _ rfl).2.choose_spec.2.1 (wm_r (h0 _ rfl).2.choose_spec.2.2 fun r2 σ2 h1 => (wr_checkcast rfl rfl h1.1 (wr_aload_n rfl rfl rfl (wr_gfR rfl rfl (by decide) h1.2.1 (wr_aload_n rfl rfl rfl (wr_invwr rfl hd rfl (fun _ => rfl) rfl h1.2.2.choose_spec.1 h1.2.2.choose_spec.2.1 (wm_r h1.2.2.choose_spec.2.2 fun r3 σ3 h2 => (wr_checkcast rfl rfl h2.1 (wr_invpv rfl hd rfl (fun _ => rfl) rfl h2.2.1 rfl (wm_v h2.2.2 fun σ4 h3 => (wr_areturn rfl h3))))))))))))))))))))
/-- SpreadsheetEngine$Rewriter.broken(LSpreadsheetEngine$Broken;)Ljava/lang/Object; : labels [] -/
theorem k416 {d : Nat} {x0 : Nat} {x1 : Nat} {σ : cm_S} {Q : cm_O → Prop} (hd : 2 ≤ d) (h0 : ∃ mm, cp_disp 277 (cm_tg σ x0) = some mm ∧ cm_rk cp mm = 3 ∧
wp_c (d - 1) mm [.ref x0, .ref x1] σ (qr fun r1 σ1 => Q (false, .ref r1, σ1))) : wp_c d 416 [.ref x0, .ref x1] σ Q :=
  wc_in (by omega) rfl rfl (L := [.ref x0, .ref x1]) rfl (have hd : 1 ≤ d - 1 := (by omega); (wr_aload_n rfl rfl rfl (wr_aload_n rfl rfl rfl (wr_invwr rfl hd rfl (fun _ => rfl) rfl h0.choose_spec.1 h0.choose_spec.2.1 (wm_r h0.choose_spec.2.2 fun r1 σ1 h1 => (wr_areturn rfl h1))))))
/-- SpreadsheetEngine$Rewriter.broken(LSpreadsheetEngine$Broken;)LSpreadsheetEngine$Node; : labels [] -/
theorem k417 {d : Nat} {x0 : Nat} {x1 : Nat} {σ : cm_S} {Q : cm_O → Prop} (hd : 1 ≤ d) (h0 : Q (false, .ref x1, σ)) : wp_c d 417 [.ref x0, .ref x1] σ Q :=
  wc_in (by omega) rfl rfl (L := [.ref x0, .ref x1]) rfl ((wr_aload_n rfl rfl rfl (wr_areturn rfl h0)))
/-- SpreadsheetEngine$Rewriter.call(LSpreadsheetEngine$Call;)Ljava/lang/Object; : labels [] -/
theorem k418 {d : Nat} {x0 : Nat} {x1 : Nat} {σ : cm_S} {Q : cm_O → Prop} (hd : 2 ≤ d) (h0 : ∃ mm, cp_disp 278 (cm_tg σ x0) = some mm ∧ cm_rk cp mm = 3 ∧
wp_c (d - 1) mm [.ref x0, .ref x1] σ (qr fun r1 σ1 => Q (false, .ref r1, σ1))) : wp_c d 418 [.ref x0, .ref x1] σ Q :=
  wc_in (by omega) rfl rfl (L := [.ref x0, .ref x1]) rfl (have hd : 1 ≤ d - 1 := (by omega); (wr_aload_n rfl rfl rfl (wr_aload_n rfl rfl rfl (wr_invwr rfl hd rfl (fun _ => rfl) rfl h0.choose_spec.1 h0.choose_spec.2.1 (wm_r h0.choose_spec.2.2 fun r1 σ1 h1 => (wr_areturn rfl h1))))))
/-- SpreadsheetEngine$Rewriter.call(LSpreadsheetEngine$Call;)LSpreadsheetEngine$Node; : labels [19] -/
theorem k419 {d : Nat} {x0 : Nat} {x1 : Nat} {σ : cm_S} {Q : cm_O → Prop} (hd : 2 ≤ d) (h0 : ∀ σ1, σ1 = cm_al σ 25 3 → 
wp_c (d - 1) 466 [.ref (cm_nx σ), .int (zi 3)] σ1 (qv fun σ2 => cm_tg σ2 x1 = 17 ∧
cm_tg σ2 (cm_R σ2 x1 1) = 25 ∧
wp_c (d - 1) 467 [.ref (cm_R σ2 x1 1)] σ2 (qr fun r3 σ3 => wp_r (d - 1) 419 (19, [.ref x0, .ref x1, .ref (cm_nx σ), .ref r3, .null], [], σ3) Q))) : wp_c d 419 [.ref x0, .ref x1] σ Q :=
  wc_in (by omega) rfl rfl (L := [.ref x0, .ref x1, .null, .null, .null]) rfl (have hd : 1 ≤ d - 1 := (by omega); (wr_new rfl rfl (wr_dup rfl rfl rfl (wr_iconst rfl rfl (wr_invpv rfl hd rfl (fun _ => rfl) rfl (cr_60 (tg_new _ _ _) rfl) rfl (wm_v (h0 _ rfl) fun σ2 h1 => (wr_astore_n rfl rfl rfl (L2 := [.ref x0, .ref x1, .ref (cm_nx σ), .null, .null]) rfl (wr_aload_n rfl rfl rfl (wr_gfR rfl rfl (by decide) h1.1 (wr_invfr rfl hd rfl (fun _ => rfl) rfl (cr_dt rfl h1.2.1) rfl (wm_r h1.2.2 fun r3 σ3 h2 => (wr_astore_n rfl rfl rfl (L2 := [.ref x0, .ref x1, .ref (cm_nx σ), .ref r3, .null]) rfl h2))))))))))))
theorem k419_19 {d : Nat} {x0 : Nat} {x1 : Nat} {x2 : Nat} {x3 : Nat} {x4 : Value} {σ : cm_S} {Q : cm_O → Prop} (hd : 1 ≤ d) (h0 : cm_tg σ x3 = 31 ∧
wp_c d 602 [.ref x3] σ (qi fun r1 σ1 => (r1 = (zi 0) → (∀ σ2, σ2 = cm_al σ1 17 2 → 
cm_tg σ2 x1 = 17 ∧
wp_c d 389 [.ref (cm_nx σ1), .ref (cm_R σ2 x1 0), .ref x2] σ2 (qv fun σ3 => Q (false, .ref (cm_nx σ1), σ3)))) ∧
(¬ r1 = (zi 0) → (cm_tg σ1 x3 = 31 ∧
wp_c d 604 [.ref x3] σ1 (qr fun r4 σ4 => (r4 = 0 ∨ cp_cast 0 (cm_tg σ4 r4) = some true) ∧
∃ mm, cp_disp 8 (cm_tg σ4 r4) = some mm ∧ cm_rk cp mm = 3 ∧
wp_c d mm [.ref r4, .ref x0] σ4 (qr fun r5 σ5 => (r5 = 0 ∨ cp_cast 0 (cm_tg σ5 r5) = some true) ∧
cm_tg σ5 x2 = 25 ∧
wp_c d 457 [.ref x2, .ref r5] σ5 (qi fun r6 σ6 => wp_r d 419 (19, [.ref x0, .ref x1, .ref x2, .ref x3, .ref r4], [], σ6) Q))))))) : wp_r d 419 (19, [.ref x0, .ref x1, .ref x2, .ref x3, x4], [], σ) Q :=
  (wr_aload_n rfl rfl rfl (wr_invfi rfl hd rfl (fun _ => rfl) rfl (cr_dt rfl h0.1) rfl (wm_i h0.2 fun r1 σ1 h1 => (wr_if_eq rfl rfl (cr_ii h1 (fun c2 h3 => (wr_new rfl rfl (wr_dup rfl rfl rfl (wr_aload_n rfl rfl rfl (wr_gfR rfl rfl (by decide) (h3 _ rfl).1 (wr_aload_n rfl rfl rfl (wr_invpv rfl hd rfl (fun _ => rfl) rfl (cr_60 (tg_new _ _ _) rfl) rfl (wm_v (h3 _ rfl).2 fun σ3 h4 => (wr_areturn rfl h4))))))))) (fun c5 h6 => (wr_aload_n rfl rfl rfl (wr_invfr rfl hd rfl (fun _ => rfl) rfl (cr_dt rfl h6.1) rfl (wm_r h6.2 fun r4 σ4 h7 => (wr_checkcast rfl rfl h7.1 (wr_astore rfl rfl rfl (L2 := [.ref x0, .ref x1, .ref x2, .ref x3, .ref r4]) rfl (wr_aload_n rfl rfl rfl (wr_aload rfl rfl rfl (wr_aload_n rfl rfl rfl (wr_invwr rfl hd rfl (fun _ => rfl) rfl h7.2.choose_spec.1 h7.2.choose_spec.2.1 (wm_r h7.2.choose_spec.2.2 fun r5 σ5 h8 => (wr_checkcast rfl rfl h8.1 (wr_invfi rfl hd rfl (fun _ => rfl) rfl (cr_dt rfl h8.2.1) rfl (wm_i h8.2.2 fun r6 σ6 h9 => (wr_pop rfl rfl rfl (wr_goto rfl h9)))))))))))))))))))))
/-- SpreadsheetEngine$Rewriter.<init>()V : labels [] -/
theorem k420 {d : Nat} {x0 : Nat} {σ : cm_S} {Q : cm_O → Prop} (hd : 2 ≤ d) (h0 : cm_tg σ x0 ≠ 0 ∧
Q (false, .int 0, σ)) : wp_c d 420 [.ref x0] σ Q :=
  wc_in (by omega) rfl rfl (L := [.ref x0]) rfl (have hd : 1 ≤ d - 1 := (by omega); (wr_aload_n rfl rfl rfl (wr_objinit rfl hd rfl rfl h0.1 (wr_return rfl h0.2))))
/-- SpreadsheetEngine$Rewriter.literal(LSpreadsheetEngine$Literal;)Ljava/lang/Object; : labels [] -/
theorem k421 {d : Nat} {x0 : Nat} {x1 : Nat} {σ : cm_S} {Q : cm_O → Prop} (hd : 2 ≤ d) (h0 : ∃ mm, cp_disp 279 (cm_tg σ x0) = some mm ∧ cm_rk cp mm = 3 ∧
wp_c (d - 1) mm [.ref x0, .ref x1] σ (qr fun r1 σ1 => Q (false, .ref r1, σ1))) : wp_c d 421 [.ref x0, .ref x1] σ Q :=
  wc_in (by omega) rfl rfl (L := [.ref x0, .ref x1]) rfl (have hd : 1 ≤ d - 1 := (by omega); (wr_aload_n rfl rfl rfl (wr_aload_n rfl rfl rfl (wr_invwr rfl hd rfl (fun _ => rfl) rfl h0.choose_spec.1 h0.choose_spec.2.1 (wm_r h0.choose_spec.2.2 fun r1 σ1 h1 => (wr_areturn rfl h1))))))
/-- SpreadsheetEngine$Rewriter.literal(LSpreadsheetEngine$Literal;)LSpreadsheetEngine$Node; : labels [] -/
theorem k422 {d : Nat} {x0 : Nat} {x1 : Nat} {σ : cm_S} {Q : cm_O → Prop} (hd : 1 ≤ d) (h0 : Q (false, .ref x1, σ)) : wp_c d 422 [.ref x0, .ref x1] σ Q :=
  wc_in (by omega) rfl rfl (L := [.ref x0, .ref x1]) rfl ((wr_aload_n rfl rfl rfl (wr_areturn rfl h0)))
/-- SpreadsheetEngine$Rewriter.name(LSpreadsheetEngine$Name;)Ljava/lang/Object; : labels [] -/
theorem k423 {d : Nat} {x0 : Nat} {x1 : Nat} {σ : cm_S} {Q : cm_O → Prop} (hd : 2 ≤ d) (h0 : ∃ mm, cp_disp 280 (cm_tg σ x0) = some mm ∧ cm_rk cp mm = 3 ∧
wp_c (d - 1) mm [.ref x0, .ref x1] σ (qr fun r1 σ1 => Q (false, .ref r1, σ1))) : wp_c d 423 [.ref x0, .ref x1] σ Q :=
  wc_in (by omega) rfl rfl (L := [.ref x0, .ref x1]) rfl (have hd : 1 ≤ d - 1 := (by omega); (wr_aload_n rfl rfl rfl (wr_aload_n rfl rfl rfl (wr_invwr rfl hd rfl (fun _ => rfl) rfl h0.choose_spec.1 h0.choose_spec.2.1 (wm_r h0.choose_spec.2.2 fun r1 σ1 h1 => (wr_areturn rfl h1))))))
/-- SpreadsheetEngine$Rewriter.name(LSpreadsheetEngine$Name;)LSpreadsheetEngine$Node; : labels [] -/
theorem k424 {d : Nat} {x0 : Nat} {x1 : Nat} {σ : cm_S} {Q : cm_O → Prop} (hd : 1 ≤ d) (h0 : Q (false, .ref x1, σ)) : wp_c d 424 [.ref x0, .ref x1] σ Q :=
  wc_in (by omega) rfl rfl (L := [.ref x0, .ref x1]) rfl ((wr_aload_n rfl rfl rfl (wr_areturn rfl h0)))
/-- SpreadsheetEngine$Rewriter.negation(LSpreadsheetEngine$Negation;)Ljava/lang/Object; : labels [] -/
theorem k425 {d : Nat} {x0 : Nat} {x1 : Nat} {σ : cm_S} {Q : cm_O → Prop} (hd : 2 ≤ d) (h0 : ∃ mm, cp_disp 281 (cm_tg σ x0) = some mm ∧ cm_rk cp mm = 3 ∧
wp_c (d - 1) mm [.ref x0, .ref x1] σ (qr fun r1 σ1 => Q (false, .ref r1, σ1))) : wp_c d 425 [.ref x0, .ref x1] σ Q :=
  wc_in (by omega) rfl rfl (L := [.ref x0, .ref x1]) rfl (have hd : 1 ≤ d - 1 := (by omega); (wr_aload_n rfl rfl rfl (wr_aload_n rfl rfl rfl (wr_invwr rfl hd rfl (fun _ => rfl) rfl h0.choose_spec.1 h0.choose_spec.2.1 (wm_r h0.choose_spec.2.2 fun r1 σ1 h1 => (wr_areturn rfl h1))))))
/-- SpreadsheetEngine$Rewriter.negation(LSpreadsheetEngine$Negation;)LSpreadsheetEngine$Node; : labels [] -/
theorem k426 {d : Nat} {x0 : Nat} {x1 : Nat} {σ : cm_S} {Q : cm_O → Prop} (hd : 2 ≤ d) (h0 : ∀ σ1, σ1 = cm_al σ 18 1 → 
cm_tg σ1 x1 = 18 ∧
∃ mm, cp_disp 8 (cm_tg σ1 (cm_R σ1 x1 0)) = some mm ∧ cm_rk cp mm = 3 ∧
wp_c (d - 1) mm [.ref (cm_R σ1 x1 0), .ref x0] σ1 (qr fun r2 σ2 => (r2 = 0 ∨ cp_cast 0 (cm_tg σ2 r2) = some true) ∧
(cm_tg σ2 (cm_nx σ) ≠ 0 ∧ cm_tg σ2 (cm_nx σ) < 60) ∧
wp_c (d - 1) 391 [.ref (cm_nx σ), .ref r2] σ2 (qv fun σ3 => Q (false, .ref (cm_nx σ), σ3)))) : wp_c d 426 [.ref x0, .ref x1] σ Q :=
  wc_in (by omega) rfl rfl (L := [.ref x0, .ref x1]) rfl (have hd : 1 ≤ d - 1 := (by omega); (wr_new rfl rfl (wr_dup rfl rfl rfl (wr_aload_n rfl rfl rfl (wr_gfR rfl rfl (by decide) (h0 _ rfl).1 (wr_aload_n rfl rfl rfl (wr_invwr rfl hd rfl (fun _ => rfl) rfl (h0 _ rfl).2.choose_spec.1 (h0 _ rfl).2.choose_spec.2.1 (wm_r (h0 _ rfl).2.choose_spec.2.2 fun r2 σ2 h1 => (wr_checkcast rfl rfl h1.1 (wr_invpv rfl hd rfl (fun _ => rfl) rfl h1.2.1 rfl (wm_v h1.2.2 fun σ3 h2 => (wr_areturn rfl h2))))))))))))
/-- SpreadsheetEngine$Rewriter.parentheses(LSpreadsheetEngine$Parentheses;)Ljava/lang/Object; : labels [] -/
theorem k427 {d : Nat} {x0 : Nat} {x1 : Nat} {σ : cm_S} {Q : cm_O → Prop} (hd : 2 ≤ d) (h0 : ∃ mm, cp_disp 282 (cm_tg σ x0) = some mm ∧ cm_rk cp mm = 3 ∧
wp_c (d - 1) mm [.ref x0, .ref x1] σ (qr fun r1 σ1 => Q (false, .ref r1, σ1))) : wp_c d 427 [.ref x0, .ref x1] σ Q :=
  wc_in (by omega) rfl rfl (L := [.ref x0, .ref x1]) rfl (have hd : 1 ≤ d - 1 := (by omega); (wr_aload_n rfl rfl rfl (wr_aload_n rfl rfl rfl (wr_invwr rfl hd rfl (fun _ => rfl) rfl h0.choose_spec.1 h0.choose_spec.2.1 (wm_r h0.choose_spec.2.2 fun r1 σ1 h1 => (wr_areturn rfl h1))))))
/-- SpreadsheetEngine$Rewriter.parentheses(LSpreadsheetEngine$Parentheses;)LSpreadsheetEngine$Node; : labels [] -/
theorem k428 {d : Nat} {x0 : Nat} {x1 : Nat} {σ : cm_S} {Q : cm_O → Prop} (hd : 2 ≤ d) (h0 : ∀ σ1, σ1 = cm_al σ 12 1 → 
cm_tg σ1 x1 = 12 ∧
∃ mm, cp_disp 8 (cm_tg σ1 (cm_R σ1 x1 0)) = some mm ∧ cm_rk cp mm = 3 ∧
wp_c (d - 1) mm [.ref (cm_R σ1 x1 0), .ref x0] σ1 (qr fun r2 σ2 => (r2 = 0 ∨ cp_cast 0 (cm_tg σ2 r2) = some true) ∧
(cm_tg σ2 (cm_nx σ) ≠ 0 ∧ cm_tg σ2 (cm_nx σ) < 60) ∧
wp_c (d - 1) 368 [.ref (cm_nx σ), .ref r2] σ2 (qv fun σ3 => Q (false, .ref (cm_nx σ), σ3)))) : wp_c d 428 [.ref x0, .ref x1] σ Q :=
  wc_in (by omega) rfl rfl (L := [.ref x0, .ref x1]) rfl (have hd : 1 ≤ d - 1 := (by omega); (wr_new rfl rfl (wr_dup rfl rfl rfl (wr_aload_n rfl rfl rfl (wr_gfR rfl rfl (by decide) (h0 _ rfl).1 (wr_aload_n rfl rfl rfl (wr_invwr rfl hd rfl (fun _ => rfl) rfl (h0 _ rfl).2.choose_spec.1 (h0 _ rfl).2.choose_spec.2.1 (wm_r (h0 _ rfl).2.choose_spec.2.2 fun r2 σ2 h1 => (wr_checkcast rfl rfl h1.1 (wr_invpv rfl hd rfl (fun _ => rfl) rfl h1.2.1 rfl (wm_v h1.2.2 fun σ3 h2 => (wr_areturn rfl h2))))))))))))
/-- SpreadsheetEngine$Rewriter.range(LSpreadsheetEngine$Range;)Ljava/lang/Object; : labels [] -/
theorem k429 {d : Nat} {x0 : Nat} {x1 : Nat} {σ : cm_S} {Q : cm_O → Prop} (hd : 2 ≤ d) (h0 : ∃ mm, cp_disp 283 (cm_tg σ x0) = some mm ∧ cm_rk cp mm = 3 ∧
wp_c (d - 1) mm [.ref x0, .ref x1] σ (qr fun r1 σ1 => Q (false, .ref r1, σ1))) : wp_c d 429 [.ref x0, .ref x1] σ Q :=
  wc_in (by omega) rfl rfl (L := [.ref x0, .ref x1]) rfl (have hd : 1 ≤ d - 1 := (by omega); (wr_aload_n rfl rfl rfl (wr_aload_n rfl rfl rfl (wr_invwr rfl hd rfl (fun _ => rfl) rfl h0.choose_spec.1 h0.choose_spec.2.1 (wm_r h0.choose_spec.2.2 fun r1 σ1 h1 => (wr_areturn rfl h1))))))
/-- SpreadsheetEngine$Rewriter.range(LSpreadsheetEngine$Range;)LSpreadsheetEngine$Node; : labels [] -/
theorem k430 {d : Nat} {x0 : Nat} {x1 : Nat} {σ : cm_S} {Q : cm_O → Prop} (hd : 1 ≤ d) (h0 : Q (false, .ref x1, σ)) : wp_c d 430 [.ref x0, .ref x1] σ Q :=
  wc_in (by omega) rfl rfl (L := [.ref x0, .ref x1]) rfl ((wr_aload_n rfl rfl rfl (wr_areturn rfl h0)))
/-- SpreadsheetEngine$Rewriter.reference(LSpreadsheetEngine$Reference;)Ljava/lang/Object; : labels [] -/
theorem k431 {d : Nat} {x0 : Nat} {x1 : Nat} {σ : cm_S} {Q : cm_O → Prop} (hd : 2 ≤ d) (h0 : ∃ mm, cp_disp 284 (cm_tg σ x0) = some mm ∧ cm_rk cp mm = 3 ∧
wp_c (d - 1) mm [.ref x0, .ref x1] σ (qr fun r1 σ1 => Q (false, .ref r1, σ1))) : wp_c d 431 [.ref x0, .ref x1] σ Q :=
  wc_in (by omega) rfl rfl (L := [.ref x0, .ref x1]) rfl (have hd : 1 ≤ d - 1 := (by omega); (wr_aload_n rfl rfl rfl (wr_aload_n rfl rfl rfl (wr_invwr rfl hd rfl (fun _ => rfl) rfl h0.choose_spec.1 h0.choose_spec.2.1 (wm_r h0.choose_spec.2.2 fun r1 σ1 h1 => (wr_areturn rfl h1))))))
/-- SpreadsheetEngine$Rewriter.reference(LSpreadsheetEngine$Reference;)LSpreadsheetEngine$Node; : labels [] -/
theorem k432 {d : Nat} {x0 : Nat} {x1 : Nat} {σ : cm_S} {Q : cm_O → Prop} (hd : 1 ≤ d) (h0 : Q (false, .ref x1, σ)) : wp_c d 432 [.ref x0, .ref x1] σ Q :=
  wc_in (by omega) rfl rfl (L := [.ref x0, .ref x1]) rfl ((wr_aload_n rfl rfl rfl (wr_areturn rfl h0)))
/-- SpreadsheetEngine$Shifter.<init>(II)V : labels [] -/
theorem k433 {d : Nat} {x0 : Nat} {x1 : Int32} {x2 : Int32} {σ : cm_S} {Q : cm_O → Prop} (hd : 2 ≤ d) (h0 : (cm_tg σ x0 ≠ 0 ∧ cm_tg σ x0 < 60) ∧
wp_c (d - 1) 420 [.ref x0] σ (qv fun σ1 => cm_tg σ1 x0 = 22 ∧
cm_K cp ≤ x0 ∧
(∀ σ2, σ2 = cm_pI σ1 x0 0 ((x2 - x2 / (zi 12) * (zi 12)) - (x1 - x1 / (zi 12) * (zi 12))) → 
∀ σ3, σ3 = cm_pI σ2 x0 1 ((x2 / (zi 12)) - (x1 / (zi 12))) → 
Q (false, .int 0, σ3)))) : wp_c d 433 [.ref x0, .int x1, .int x2] σ Q :=
  wc_in (by omega) rfl rfl (L := [.ref x0, .int x1, .int x2]) rfl (have hd : 1 ≤ d - 1 := (by omega); (wr_aload_n rfl rfl rfl (wr_invpv rfl hd rfl (fun _ => rfl) rfl h0.1 rfl (wm_v h0.2 fun σ1 h1 => (wr_aload_n rfl rfl rfl (wr_iload_n rfl rfl rfl (wr_bipush (a := zi 12) rfl rfl rfl (wr_irem rfl (by decide) rfl (wr_iload_n rfl rfl rfl (wr_bipush (a := zi 12) rfl rfl rfl (wr_irem rfl (by decide) rfl (wr_isub rfl rfl (wr_pfI rfl rfl (by decide) ⟨by decide, by decide⟩ h1.1 h1.2.1 rfl (wr_aload_n rfl rfl rfl (wr_iload_n rfl rfl rfl (wr_bipush (a := zi 12) rfl rfl rfl (wr_idiv rfl (by decide) rfl (wr_iload_n rfl rfl rfl (wr_bipush (a := zi 12) rfl rfl rfl (wr_idiv rfl (by decide) rfl (wr_isub rfl rfl (wr_pfI rfl rfl (by decide) ⟨by decide, by decide⟩ h1.1 h1.2.1 rfl (wr_return rfl ((h1.2.2 _ rfl) _ rfl))))))))))))))))))))))))
/-- SpreadsheetEngine$Shifter.moved(LSpreadsheetEngine$Reference;)LSpreadsheetEngine$Reference; : labels [] -/
theorem k434 {d : Nat} {x0 : Nat} {x1 : Nat} {σ : cm_S} {Q : cm_O → Prop} (hd : 2 ≤ d) (h0 : cm_tg σ x1 = 15 ∧
((cm_I σ x1 2) = (zi 0) → (cm_tg σ x0 = 22 ∧
((cm_I σ x1 3) = (zi 0) → (wp_c (d - 1) 380 [.ref x1, .int ((cm_I σ x1 0) + (cm_I σ x0 0)), .int ((cm_I σ x1 1) + (cm_I σ x0 1))] σ (qr fun r1 σ1 => Q (false, .ref r1, σ1)))) ∧
(¬ (cm_I σ x1 3) = (zi 0) → (wp_c (d - 1) 380 [.ref x1, .int ((cm_I σ x1 0) + (cm_I σ x0 0)), .int (cm_I σ x1 1)] σ (qr fun r2 σ2 => Q (false, .ref r2, σ2)))))) ∧
(¬ (cm_I σ x1 2) = (zi 0) → (((cm_I σ x1 3) = (zi 0) → (cm_tg σ x0 = 22 ∧
wp_c (d - 1) 380 [.ref x1, .int (cm_I σ x1 0), .int ((cm_I σ x1 1) + (cm_I σ x0 1))] σ (qr fun r3 σ3 => Q (false, .ref r3, σ3)))) ∧
(¬ (cm_I σ x1 3) = (zi 0) → (wp_c (d - 1) 380 [.ref x1, .int (cm_I σ x1 0), .int (cm_I σ x1 1)] σ (qr fun r4 σ4 => Q (false, .ref r4, σ4))))))) : wp_c d 434 [.ref x0, .ref x1] σ Q :=
  wc_in (by omega) rfl rfl (L := [.ref x0, .ref x1]) rfl (have hd : 1 ≤ d - 1 := (by omega); (wr_aload_n rfl rfl rfl (wr_aload_n rfl rfl rfl (wr_gfI rfl rfl (by decide) ⟨by decide, by decide⟩ h0.1 (wr_if_eq rfl rfl (cr_ii h0.2 (fun c1 h2 => (wr_aload_n rfl rfl rfl (wr_gfI rfl rfl (by decide) ⟨by decide, by decide⟩ h0.1 (wr_aload_n rfl rfl rfl (wr_gfI rfl rfl (by decide) ⟨by decide, by decide⟩ h2.1 (wr_iadd rfl rfl (wr_aload_n rfl rfl rfl (wr_gfI rfl rfl (by decide) ⟨by decide, by decide⟩ h0.1 (wr_if_eq rfl rfl (cr_ii h2.2 (fun c3 h4 => (wr_aload_n rfl rfl rfl (wr_gfI rfl rfl (by decide) ⟨by decide, by decide⟩ h0.1 (wr_aload_n rfl rfl rfl (wr_gfI rfl rfl (by decide) ⟨by decide, by decide⟩ h2.1 (wr_iadd rfl rfl (wr_invwr rfl hd rfl (fun _ => rfl) rfl (cr_dt rfl h0.1) rfl (wm_r h4 fun r1 σ1 h5 => (wr_areturn rfl h5))))))))) (fun c6 h7 => (wr_aload_n rfl rfl rfl (wr_gfI rfl rfl (by decide) ⟨by decide, by decide⟩ h0.1 (wr_goto rfl (wr_invwr rfl hd rfl (fun _ => rfl) rfl (cr_dt rfl h0.1) rfl (wm_r h7 fun r2 σ2 h8 => (wr_areturn rfl h8))))))))))))))))) (fun c9 h10 => (wr_aload_n rfl rfl rfl (wr_gfI rfl rfl (by decide) ⟨by decide, by decide⟩ h0.1 (wr_goto rfl (wr_aload_n rfl rfl rfl (wr_gfI rfl rfl (by decide) ⟨by decide, by decide⟩ h0.1 (wr_if_eq rfl rfl (cr_ii h10 (fun c11 h12 => (wr_aload_n rfl rfl rfl (wr_gfI rfl rfl (by decide) ⟨by decide, by decide⟩ h0.1 (wr_aload_n rfl rfl rfl (wr_gfI rfl rfl (by decide) ⟨by decide, by decide⟩ h12.1 (wr_iadd rfl rfl (wr_invwr rfl hd rfl (fun _ => rfl) rfl (cr_dt rfl h0.1) rfl (wm_r h12.2 fun r3 σ3 h13 => (wr_areturn rfl h13))))))))) (fun c14 h15 => (wr_aload_n rfl rfl rfl (wr_gfI rfl rfl (by decide) ⟨by decide, by decide⟩ h0.1 (wr_goto rfl (wr_invwr rfl hd rfl (fun _ => rfl) rfl (cr_dt rfl h0.1) rfl (wm_r h15 fun r4 σ4 h16 => (wr_areturn rfl h16)))))))))))))))))))))
/-- SpreadsheetEngine$Shifter.range(LSpreadsheetEngine$Range;)LSpreadsheetEngine$Node; : labels [] -/
theorem k435 {d : Nat} {x0 : Nat} {x1 : Nat} {σ : cm_S} {Q : cm_O → Prop} (hd : 2 ≤ d) (h0 : cm_tg σ x1 = 16 ∧
cm_tg σ x0 = 22 ∧
wp_c (d - 1) 434 [.ref x0, .ref (cm_R σ x1 0)] σ (qr fun r1 σ1 => cm_tg σ1 x1 = 16 ∧
cm_tg σ1 x0 = 22 ∧
wp_c (d - 1) 434 [.ref x0, .ref (cm_R σ1 x1 1)] σ1 (qr fun r2 σ2 => cm_tg σ2 r1 = 15 ∧
wp_c (d - 1) 384 [.ref r1] σ2 (qi fun r3 σ3 => (r3 = (zi 0) → (∀ σ4, σ4 = cm_al σ3 14 0 → 
wp_c (d - 1) 377 [.ref (cm_nx σ3)] σ4 (qv fun σ5 => Q (false, .ref (cm_nx σ3), σ5)))) ∧
(¬ r3 = (zi 0) → (cm_tg σ3 r2 = 15 ∧
wp_c (d - 1) 384 [.ref r2] σ3 (qi fun r6 σ6 => (r6 = (zi 0) → (∀ σ7, σ7 = cm_al σ6 14 0 → 
wp_c (d - 1) 377 [.ref (cm_nx σ6)] σ7 (qv fun σ8 => Q (false, .ref (cm_nx σ6), σ8)))) ∧
(¬ r6 = (zi 0) → (∀ σ9, σ9 = cm_al σ6 16 2 → 
wp_c (d - 1) 386 [.ref (cm_nx σ6), .ref r1, .ref r2] σ9 (qv fun σ10 => Q (false, .ref (cm_nx σ6), σ10))))))))))) : wp_c d 435 [.ref x0, .ref x1] σ Q :=
  wc_in (by omega) rfl rfl (L := [.ref x0, .ref x1, .null, .null]) rfl (have hd : 1 ≤ d - 1 := (by omega); (wr_aload_n rfl rfl rfl (wr_aload_n rfl rfl rfl (wr_gfR rfl rfl (by decide) h0.1 (wr_invwr rfl hd rfl (fun _ => rfl) rfl (cr_dt rfl h0.2.1) rfl (wm_r h0.2.2 fun r1 σ1 h1 => (wr_astore_n rfl rfl rfl (L2 := [.ref x0, .ref x1, .ref r1, .null]) rfl (wr_aload_n rfl rfl rfl (wr_aload_n rfl rfl rfl (wr_gfR rfl rfl (by decide) h1.1 (wr_invwr rfl hd rfl (fun _ => rfl) rfl (cr_dt rfl h1.2.1) rfl (wm_r h1.2.2 fun r2 σ2 h2 => (wr_astore_n rfl rfl rfl (L2 := [.ref x0, .ref x1, .ref r1, .ref r2]) rfl (wr_aload_n rfl rfl rfl (wr_invwi rfl hd rfl (fun _ => rfl) rfl (cr_dt rfl h2.1) rfl (wm_i h2.2 fun r3 σ3 h3 => (wr_if_eq rfl rfl (cr_ii h3 (fun c4 h5 => (wr_new rfl rfl (wr_dup rfl rfl rfl (wr_invpv rfl hd rfl (fun _ => rfl) rfl (cr_60 (tg_new _ _ _) rfl) rfl (wm_v (h5 _ rfl) fun σ5 h6 => (wr_areturn rfl h6)))))) (fun c7 h8 => (wr_aload_n rfl rfl rfl (wr_invwi rfl hd rfl (fun _ => rfl) rfl (cr_dt rfl h8.1) rfl (wm_i h8.2 fun r6 σ6 h9 => (wr_if_eq rfl rfl (cr_ii h9 (fun c10 h11 => (wr_new rfl rfl (wr_dup rfl rfl rfl (wr_invpv rfl hd rfl (fun _ => rfl) rfl (cr_60 (tg_new _ _ _) rfl) rfl (wm_v (h11 _ rfl) fun σ8 h12 => (wr_areturn rfl h12)))))) (fun c13 h14 => (wr_new rfl rfl (wr_dup rfl rfl rfl (wr_aload_n rfl rfl rfl (wr_aload_n rfl rfl rfl (wr_invpv rfl hd rfl (fun _ => rfl) rfl (cr_60 (tg_new _ _ _) rfl) rfl (wm_v (h14 _ rfl) fun σ10 h15 => (wr_goto rfl (wr_areturn rfl h15)))))))))))))))))))))))))))))))))
/-- SpreadsheetEngine$Shifter.range(LSpreadsheetEngine$Range;)Ljava/lang/Object; : labels [] -/
theorem k436 {d : Nat} {x0 : Nat} {x1 : Nat} {σ : cm_S} {Q : cm_O → Prop} (hd : 2 ≤ d) (h0 : cm_tg σ x0 = 22 ∧
wp_c (d - 1) 435 [.ref x0, .ref x1] σ (qr fun r1 σ1 => Q (false, .ref r1, σ1))) : wp_c d 436 [.ref x0, .ref x1] σ Q :=
  wc_in (by omega) rfl rfl (L := [.ref x0, .ref x1]) rfl (have hd : 1 ≤ d - 1 := (by omega); (wr_aload_n rfl rfl rfl (wr_aload_n rfl rfl rfl (wr_invwr rfl hd rfl (fun _ => rfl) rfl (cr_dt rfl h0.1) rfl (wm_r h0.2 fun r1 σ1 h1 => (wr_areturn rfl h1))))))
/-- SpreadsheetEngine$Shifter.reference(LSpreadsheetEngine$Reference;)LSpreadsheetEngine$Node; : labels [] -/
theorem k437 {d : Nat} {x0 : Nat} {x1 : Nat} {σ : cm_S} {Q : cm_O → Prop} (hd : 2 ≤ d) (h0 : cm_tg σ x0 = 22 ∧
wp_c (d - 1) 434 [.ref x0, .ref x1] σ (qr fun r1 σ1 => cm_tg σ1 r1 = 15 ∧
wp_c (d - 1) 384 [.ref r1] σ1 (qi fun r2 σ2 => (r2 = (zi 0) → (∀ σ3, σ3 = cm_al σ2 14 0 → 
wp_c (d - 1) 377 [.ref (cm_nx σ2)] σ3 (qv fun σ4 => Q (false, .ref (cm_nx σ2), σ4)))) ∧
(¬ r2 = (zi 0) → (Q (false, .ref r1, σ2)))))) : wp_c d 437 [.ref x0, .ref x1] σ Q :=
  wc_in (by omega) rfl rfl (L := [.ref x0, .ref x1, .null]) rfl (have hd : 1 ≤ d - 1 := (by omega); (wr_aload_n rfl rfl rfl (wr_aload_n rfl rfl rfl (wr_invwr rfl hd rfl (fun _ => rfl) rfl (cr_dt rfl h0.1) rfl (wm_r h0.2 fun r1 σ1 h1 => (wr_astore_n rfl rfl rfl (L2 := [.ref x0, .ref x1, .ref r1]) rfl (wr_aload_n rfl rfl rfl (wr_invwi rfl hd rfl (fun _ => rfl) rfl (cr_dt rfl h1.1) rfl (wm_i h1.2 fun r2 σ2 h2 => (wr_if_eq rfl rfl (cr_ii h2 (fun c3 h4 => (wr_new rfl rfl (wr_dup rfl rfl rfl (wr_invpv rfl hd rfl (fun _ => rfl) rfl (cr_60 (tg_new _ _ _) rfl) rfl (wm_v (h4 _ rfl) fun σ4 h5 => (wr_areturn rfl h5)))))) (fun c6 h7 => (wr_aload_n rfl rfl rfl (wr_goto rfl (wr_areturn rfl h7)))))))))))))))
/-- SpreadsheetEngine$Shifter.reference(LSpreadsheetEngine$Reference;)Ljava/lang/Object; : labels [] -/
theorem k438 {d : Nat} {x0 : Nat} {x1 : Nat} {σ : cm_S} {Q : cm_O → Prop} (hd : 2 ≤ d) (h0 : cm_tg σ x0 = 22 ∧
wp_c (d - 1) 437 [.ref x0, .ref x1] σ (qr fun r1 σ1 => Q (false, .ref r1, σ1))) : wp_c d 438 [.ref x0, .ref x1] σ Q :=
  wc_in (by omega) rfl rfl (L := [.ref x0, .ref x1]) rfl (have hd : 1 ≤ d - 1 := (by omega); (wr_aload_n rfl rfl rfl (wr_aload_n rfl rfl rfl (wr_invwr rfl hd rfl (fun _ => rfl) rfl (cr_dt rfl h0.1) rfl (wm_r h0.2 fun r1 σ1 h1 => (wr_areturn rfl h1))))))
/-- SpreadsheetEngine$Renamer.<init>(Ljava/lang/String;Ljava/lang/String;)V : labels [] -/
theorem k449 {d : Nat} {x0 : Nat} {x1 : Nat} {x2 : Nat} {σ : cm_S} {Q : cm_O → Prop} (hd : 2 ≤ d) (h0 : (cm_tg σ x0 ≠ 0 ∧ cm_tg σ x0 < 60) ∧
wp_c (d - 1) 420 [.ref x0] σ (qv fun σ1 => cm_tg σ1 x0 = 24 ∧
cm_K cp ≤ x0 ∧
(∀ σ2, σ2 = cm_pR σ1 x0 0 x1 → 
∀ σ3, σ3 = cm_pR σ2 x0 1 x2 → 
Q (false, .int 0, σ3)))) : wp_c d 449 [.ref x0, .ref x1, .ref x2] σ Q :=
  wc_in (by omega) rfl rfl (L := [.ref x0, .ref x1, .ref x2]) rfl (have hd : 1 ≤ d - 1 := (by omega); (wr_aload_n rfl rfl rfl (wr_invpv rfl hd rfl (fun _ => rfl) rfl h0.1 rfl (wm_v h0.2 fun σ1 h1 => (wr_aload_n rfl rfl rfl (wr_aload_n rfl rfl rfl (wr_pfR rfl rfl (by decide) h1.1 h1.2.1 (wr_aload_n rfl rfl rfl (wr_aload_n rfl rfl rfl (wr_pfR rfl rfl (by decide) h1.1 h1.2.1 (wr_return rfl ((h1.2.2 _ rfl) _ rfl))))))))))))
/-- SpreadsheetEngine$Renamer.name(LSpreadsheetEngine$Name;)Ljava/lang/Object; : labels [] -/
theorem k450 {d : Nat} {x0 : Nat} {x1 : Nat} {σ : cm_S} {Q : cm_O → Prop} (hd : 2 ≤ d) (h0 : cm_tg σ x0 = 24 ∧
wp_c (d - 1) 451 [.ref x0, .ref x1] σ (qr fun r1 σ1 => Q (false, .ref r1, σ1))) : wp_c d 450 [.ref x0, .ref x1] σ Q :=
  wc_in (by omega) rfl rfl (L := [.ref x0, .ref x1]) rfl (have hd : 1 ≤ d - 1 := (by omega); (wr_aload_n rfl rfl rfl (wr_aload_n rfl rfl rfl (wr_invwr rfl hd rfl (fun _ => rfl) rfl (cr_dt rfl h0.1) rfl (wm_r h0.2 fun r1 σ1 h1 => (wr_areturn rfl h1))))))
/-- SpreadsheetEngine$Renamer.name(LSpreadsheetEngine$Name;)LSpreadsheetEngine$Node; : labels [] -/
theorem k451 {d : Nat} {x0 : Nat} {x1 : Nat} {σ : cm_S} {Q : cm_O → Prop} (hd : 2 ≤ d) (h0 : cm_tg σ x1 = 13 ∧
cm_tg σ x0 = 24 ∧
cm_tg σ (cm_R σ x1 0) = 29 ∧
wp_c (d - 1) 512 [.ref (cm_R σ x1 0), .ref (cm_R σ x0 0)] σ (qi fun r1 σ1 => (r1 = (zi 0) → (Q (false, .ref x1, σ1))) ∧
(¬ r1 = (zi 0) → (cm_tg σ1 x0 = 24 ∧
cm_K cp ≤ x0 ∧
(∀ σ2, σ2 = cm_pI σ1 x0 2 ((cm_I σ1 x0 2) + (zi 1)) → 
∀ σ3, σ3 = cm_al σ2 13 1 → 
cm_tg σ3 x0 = 24 ∧
wp_c (d - 1) 374 [.ref (cm_nx σ2), .ref (cm_R σ3 x0 1)] σ3 (qv fun σ4 => Q (false, .ref (cm_nx σ2), σ4))))))) : wp_c d 451 [.ref x0, .ref x1] σ Q :=
  wc_in (by omega) rfl rfl (L := [.ref x0, .ref x1]) rfl (have hd : 1 ≤ d - 1 := (by omega); (wr_aload_n rfl rfl rfl (wr_gfR rfl rfl (by decide) h0.1 (wr_aload_n rfl rfl rfl (wr_gfR rfl rfl (by decide) h0.2.1 (wr_invwi rfl hd rfl (fun _ => rfl) rfl (cr_dt rfl h0.2.2.1) rfl (wm_i h0.2.2.2 fun r1 σ1 h1 => (wr_if_ne rfl rfl (cr_ii h1 (fun c2 h3 => (wr_aload_n rfl rfl rfl (wr_areturn rfl h3))) (fun c4 h5 => (wr_aload_n rfl rfl rfl (wr_dup rfl rfl rfl (wr_gfI rfl rfl (by decide) ⟨by decide, by decide⟩ h5.1 (wr_iconst rfl rfl (wr_iadd rfl rfl (wr_pfI rfl rfl (by decide) ⟨by decide, by decide⟩ h5.1 h5.2.1 rfl (wr_new rfl rfl (wr_dup rfl rfl rfl (wr_aload_n rfl rfl rfl (wr_gfR rfl rfl (by decide) ((h5.2.2 _ rfl) _ rfl).1 (wr_invpv rfl hd rfl (fun _ => rfl) rfl (cr_60 (tg_new _ _ _) rfl) rfl (wm_v ((h5.2.2 _ rfl) _ rfl).2 fun σ4 h6 => (wr_areturn rfl h6)))))))))))))))))))))))
/-- SpreadsheetEngine$RowChange.changes(II)Z : labels [38, 72, 112, 137] -/
theorem k439 {d : Nat} {x0 : Nat} {x1 : Int32} {x2 : Int32} {σ : cm_S} {Q : cm_O → Prop} (hd : 1 ≤ d) (h0 : cm_tg σ x0 = 21 ∧
cm_K cp ≤ x0 ∧
(∀ σ1, σ1 = cm_pI σ x0 3 x1 → 
∀ σ2, σ2 = cm_pI σ1 x0 4 x2 → 
((cm_I σ2 x0 1) = (zi 0) → (((cm_I σ2 x0 0) < (cm_I σ2 x0 3) → (wp_r (d - 1) 439 (112, [.ref x0, .int x1, .int x2], [.int (zi 1), .int (cm_I σ2 x0 3), .ref x0], σ2) Q)) ∧
(¬ (cm_I σ2 x0 0) < (cm_I σ2 x0 3) → (wp_r (d - 1) 439 (112, [.ref x0, .int x1, .int x2], [.int (zi 0), .int (cm_I σ2 x0 3), .ref x0], σ2) Q)))) ∧
(¬ (cm_I σ2 x0 1) = (zi 0) → (((cm_I σ2 x0 3) < (cm_I σ2 x0 0) → (wp_r (d - 1) 439 (38, [.ref x0, .int x1, .int x2], [.int (zi 0), .int (cm_I σ2 x0 3), .ref x0], σ2) Q)) ∧
(¬ (cm_I σ2 x0 3) < (cm_I σ2 x0 0) → (wp_r (d - 1) 439 (38, [.ref x0, .int x1, .int x2], [.int (zi 1), .int (cm_I σ2 x0 3), .ref x0], σ2) Q)))))) : wp_c d 439 [.ref x0, .int x1, .int x2] σ Q :=
  wc_in (by omega) rfl rfl (L := [.ref x0, .int x1, .int x2]) rfl ((wr_aload_n rfl rfl rfl (wr_iload_n rfl rfl rfl (wr_pfI rfl rfl (by decide) ⟨by decide, by decide⟩ h0.1 h0.2.1 rfl (wr_aload_n rfl rfl rfl (wr_iload_n rfl rfl rfl (wr_pfI rfl rfl (by decide) ⟨by decide, by decide⟩ h0.1 h0.2.1 rfl (wr_aload_n rfl rfl rfl (wr_gfI rfl rfl (by decide) ⟨by decide, by decide⟩ h0.1 (wr_if_eq rfl rfl (cr_ii ((h0.2.2 _ rfl) _ rfl) (fun c1 h2 => (wr_aload_n rfl rfl rfl (wr_dup rfl rfl rfl (wr_gfI rfl rfl (by decide) ⟨by decide, by decide⟩ h0.1 (wr_aload_n rfl rfl rfl (wr_gfI rfl rfl (by decide) ⟨by decide, by decide⟩ h0.1 (wr_aload_n rfl rfl rfl (wr_gfI rfl rfl (by decide) ⟨by decide, by decide⟩ h0.1 (wr_icmp_le rfl rfl (cr_ii h2 (fun c3 h4 => (wr_iconst rfl rfl (wr_goto rfl h4))) (fun c5 h6 => (wr_iconst rfl rfl h6)))))))))))) (fun c7 h8 => (wr_aload_n rfl rfl rfl (wr_dup rfl rfl rfl (wr_gfI rfl rfl (by decide) ⟨by decide, by decide⟩ h0.1 (wr_aload_n rfl rfl rfl (wr_gfI rfl rfl (by decide) ⟨by decide, by decide⟩ h0.1 (wr_aload_n rfl rfl rfl (wr_gfI rfl rfl (by decide) ⟨by decide, by decide⟩ h0.1 (wr_icmp_lt rfl rfl (cr_ii h8 (fun c9 h10 => (wr_iconst rfl rfl h10)) (fun c11 h12 => (wr_iconst rfl rfl (wr_goto rfl h12))))))))))))))))))))))))
theorem k439_38 {d : Nat} {x0 : Nat} {x1 : Int32} {x2 : Int32} {s0 : Nat} {s1 : Int32} {s2 : Int32} {σ : cm_S} {Q : cm_O → Prop} (h0 : cm_tg σ s0 = 21 ∧
cm_K cp ≤ s0 ∧
(∀ σ1, σ1 = cm_pI σ s0 3 (s1 + s2) → 
cm_tg σ1 x0 = 21 ∧
((cm_I σ1 x0 4) < (cm_I σ1 x0 0) → (wp_r d 439 (72, [.ref x0, .int x1, .int x2], [.int (zi 0), .int (cm_I σ1 x0 4), .ref x0], σ1) Q)) ∧
(¬ (cm_I σ1 x0 4) < (cm_I σ1 x0 0) → (((cm_I σ1 x0 4) < (zi 19) → (wp_r d 439 (72, [.ref x0, .int x1, .int x2], [.int (zi 1), .int (cm_I σ1 x0 4), .ref x0], σ1) Q)) ∧
(¬ (cm_I σ1 x0 4) < (zi 19) → (wp_r d 439 (72, [.ref x0, .int x1, .int x2], [.int (zi 0), .int (cm_I σ1 x0 4), .ref x0], σ1) Q)))))) : wp_r d 439 (38, [.ref x0, .int x1, .int x2], [.int s2, .int s1, .ref s0], σ) Q :=
  (wr_iadd rfl rfl (wr_pfI rfl rfl (by decide) ⟨by decide, by decide⟩ h0.1 h0.2.1 rfl (wr_aload_n rfl rfl rfl (wr_dup rfl rfl rfl (wr_gfI rfl rfl (by decide) ⟨by decide, by decide⟩ (h0.2.2 _ rfl).1 (wr_aload_n rfl rfl rfl (wr_gfI rfl rfl (by decide) ⟨by decide, by decide⟩ (h0.2.2 _ rfl).1 (wr_aload_n rfl rfl rfl (wr_gfI rfl rfl (by decide) ⟨by decide, by decide⟩ (h0.2.2 _ rfl).1 (wr_icmp_lt rfl rfl (cr_ii (h0.2.2 _ rfl).2 (fun c1 h2 => (wr_iconst rfl rfl h2)) (fun c3 h4 => (wr_aload_n rfl rfl rfl (wr_gfI rfl rfl (by decide) ⟨by decide, by decide⟩ (h0.2.2 _ rfl).1 (wr_bipush (a := zi 19) rfl rfl rfl (wr_icmp_ge rfl rfl (cr_ii h4 (fun c5 h6 => (wr_iconst rfl rfl (wr_goto rfl h6))) (fun c7 h8 => (wr_iconst rfl rfl h8)))))))))))))))))))
theorem k439_72 {d : Nat} {x0 : Nat} {x1 : Int32} {x2 : Int32} {s0 : Nat} {s1 : Int32} {s2 : Int32} {σ : cm_S} {Q : cm_O → Prop} (h0 : cm_tg σ s0 = 21 ∧
cm_K cp ≤ s0 ∧
(∀ σ1, σ1 = cm_pI σ s0 4 (s1 + s2) → 
cm_tg σ1 x0 = 21 ∧
((cm_I σ1 x0 3) < (zi 20) → (Q (false, .int (zi 1), σ1))) ∧
(¬ (cm_I σ1 x0 3) < (zi 20) → (Q (false, .int (zi 0), σ1))))) : wp_r d 439 (72, [.ref x0, .int x1, .int x2], [.int s2, .int s1, .ref s0], σ) Q :=
  (wr_iadd rfl rfl (wr_pfI rfl rfl (by decide) ⟨by decide, by decide⟩ h0.1 h0.2.1 rfl (wr_aload_n rfl rfl rfl (wr_gfI rfl rfl (by decide) ⟨by decide, by decide⟩ (h0.2.2 _ rfl).1 (wr_bipush (a := zi 20) rfl rfl rfl (wr_icmp_ge rfl rfl (cr_ii (h0.2.2 _ rfl).2 (fun c1 h2 => (wr_iconst rfl rfl (wr_goto rfl (wr_ireturn rfl (by decide) h2)))) (fun c3 h4 => (wr_iconst rfl rfl (wr_ireturn rfl (by decide) h4))))))))))
theorem k439_112 {d : Nat} {x0 : Nat} {x1 : Int32} {x2 : Int32} {s0 : Nat} {s1 : Int32} {s2 : Int32} {σ : cm_S} {Q : cm_O → Prop} (h0 : cm_tg σ s0 = 21 ∧
cm_K cp ≤ s0 ∧
(∀ σ1, σ1 = cm_pI σ s0 3 (s1 - s2) → 
cm_tg σ1 x0 = 21 ∧
((cm_I σ1 x0 4) < (cm_I σ1 x0 0) → (wp_r d 439 (137, [.ref x0, .int x1, .int x2], [.int (zi 0), .int (cm_I σ1 x0 4), .ref x0], σ1) Q)) ∧
(¬ (cm_I σ1 x0 4) < (cm_I σ1 x0 0) → (wp_r d 439 (137, [.ref x0, .int x1, .int x2], [.int (zi 1), .int (cm_I σ1 x0 4), .ref x0], σ1) Q)))) : wp_r d 439 (112, [.ref x0, .int x1, .int x2], [.int s2, .int s1, .ref s0], σ) Q :=
  (wr_isub rfl rfl (wr_pfI rfl rfl (by decide) ⟨by decide, by decide⟩ h0.1 h0.2.1 rfl (wr_aload_n rfl rfl rfl (wr_dup rfl rfl rfl (wr_gfI rfl rfl (by decide) ⟨by decide, by decide⟩ (h0.2.2 _ rfl).1 (wr_aload_n rfl rfl rfl (wr_gfI rfl rfl (by decide) ⟨by decide, by decide⟩ (h0.2.2 _ rfl).1 (wr_aload_n rfl rfl rfl (wr_gfI rfl rfl (by decide) ⟨by decide, by decide⟩ (h0.2.2 _ rfl).1 (wr_icmp_lt rfl rfl (cr_ii (h0.2.2 _ rfl).2 (fun c1 h2 => (wr_iconst rfl rfl h2)) (fun c3 h4 => (wr_iconst rfl rfl (wr_goto rfl h4))))))))))))))
theorem k439_137 {d : Nat} {x0 : Nat} {x1 : Int32} {x2 : Int32} {s0 : Nat} {s1 : Int32} {s2 : Int32} {σ : cm_S} {Q : cm_O → Prop} (h0 : cm_tg σ s0 = 21 ∧
cm_K cp ≤ s0 ∧
(∀ σ1, σ1 = cm_pI σ s0 4 (s1 - s2) → 
cm_tg σ1 x0 = 21 ∧
((cm_I σ1 x0 4) < (cm_I σ1 x0 3) → (Q (false, .int (zi 0), σ1))) ∧
(¬ (cm_I σ1 x0 4) < (cm_I σ1 x0 3) → (Q (false, .int (zi 1), σ1))))) : wp_r d 439 (137, [.ref x0, .int x1, .int x2], [.int s2, .int s1, .ref s0], σ) Q :=
  (wr_isub rfl rfl (wr_pfI rfl rfl (by decide) ⟨by decide, by decide⟩ h0.1 h0.2.1 rfl (wr_aload_n rfl rfl rfl (wr_gfI rfl rfl (by decide) ⟨by decide, by decide⟩ (h0.2.2 _ rfl).1 (wr_aload_n rfl rfl rfl (wr_gfI rfl rfl (by decide) ⟨by decide, by decide⟩ (h0.2.2 _ rfl).1 (wr_icmp_lt rfl rfl (cr_ii (h0.2.2 _ rfl).2 (fun c1 h2 => (wr_iconst rfl rfl (wr_ireturn rfl (by decide) h2))) (fun c3 h4 => (wr_iconst rfl rfl (wr_goto rfl (wr_ireturn rfl (by decide) h4))))))))))))
/-- SpreadsheetEngine$RowChange.<init>(IZ)V : labels [] -/
theorem k440 {d : Nat} {x0 : Nat} {x1 : Int32} {x2 : Int32} {σ : cm_S} {Q : cm_O → Prop} (hd : 2 ≤ d) (h0 : (cm_tg σ x0 ≠ 0 ∧ cm_tg σ x0 < 60) ∧
wp_c (d - 1) 420 [.ref x0] σ (qv fun σ1 => cm_tg σ1 x0 = 21 ∧
cm_K cp ≤ x0 ∧
(∀ σ2, σ2 = cm_pI σ1 x0 0 x1 → 
cm_fit 3 x2 = true ∧
(∀ σ3, σ3 = cm_pI σ2 x0 1 x2 → 
Q (false, .int 0, σ3))))) : wp_c d 440 [.ref x0, .int x1, .int x2] σ Q :=
  wc_in (by omega) rfl rfl (L := [.ref x0, .int x1, .int x2]) rfl (have hd : 1 ≤ d - 1 := (by omega); (wr_aload_n rfl rfl rfl (wr_invpv rfl hd rfl (fun _ => rfl) rfl h0.1 rfl (wm_v h0.2 fun σ1 h1 => (wr_aload_n rfl rfl rfl (wr_iload_n rfl rfl rfl (wr_pfI rfl rfl (by decide) ⟨by decide, by decide⟩ h1.1 h1.2.1 rfl (wr_aload_n rfl rfl rfl (wr_iload_n rfl rfl rfl (wr_pfI rfl rfl (by decide) ⟨by decide, by decide⟩ h1.1 h1.2.1 (h1.2.2 _ rfl).1 (wr_return rfl ((h1.2.2 _ rfl).2 _ rfl))))))))))))
/-- SpreadsheetEngine$RowChange.lose()LSpreadsheetEngine$Node; : labels [] -/
theorem k441 {d : Nat} {x0 : Nat} {σ : cm_S} {Q : cm_O → Prop} (hd : 2 ≤ d) (h0 : cm_tg σ x0 = 21 ∧
cm_K cp ≤ x0 ∧
(∀ σ1, σ1 = cm_pI σ x0 2 ((cm_I σ x0 2) + (zi 1)) → 
∀ σ2, σ2 = cm_al σ1 14 0 → 
wp_c (d - 1) 377 [.ref (cm_nx σ1)] σ2 (qv fun σ3 => Q (false, .ref (cm_nx σ1), σ3)))) : wp_c d 441 [.ref x0] σ Q :=
  wc_in (by omega) rfl rfl (L := [.ref x0]) rfl (have hd : 1 ≤ d - 1 := (by omega); (wr_aload_n rfl rfl rfl (wr_dup rfl rfl rfl (wr_gfI rfl rfl (by decide) ⟨by decide, by decide⟩ h0.1 (wr_iconst rfl rfl (wr_iadd rfl rfl (wr_pfI rfl rfl (by decide) ⟨by decide, by decide⟩ h0.1 h0.2.1 rfl (wr_new rfl rfl (wr_dup rfl rfl rfl (wr_invpv rfl hd rfl (fun _ => rfl) rfl (cr_60 (tg_new _ _ _) rfl) rfl (wm_v ((h0.2.2 _ rfl) _ rfl) fun σ3 h1 => (wr_areturn rfl h1))))))))))))
/-- SpreadsheetEngine$RowChange.range(LSpreadsheetEngine$Range;)LSpreadsheetEngine$Node; : labels [22, 54] -/
theorem k442 {d : Nat} {x0 : Nat} {x1 : Nat} {σ : cm_S} {Q : cm_O → Prop} (hd : 2 ≤ d) (h0 : cm_tg σ x1 = 16 ∧
cm_tg σ (cm_R σ x1 0) = 15 ∧
cm_tg σ (cm_R σ x1 1) = 15 ∧
((cm_I σ (cm_R σ x1 1) 1) < (cm_I σ (cm_R σ x1 0) 1) → (wp_r (d - 1) 442 (22, [.ref x0, .ref x1, .null, .null, .null], [.int (zi 0)], σ) Q)) ∧
(¬ (cm_I σ (cm_R σ x1 1) 1) < (cm_I σ (cm_R σ x1 0) 1) → (wp_r (d - 1) 442 (22, [.ref x0, .ref x1, .null, .null, .null], [.int (zi 1)], σ) Q))) : wp_c d 442 [.ref x0, .ref x1] σ Q :=
  wc_in (by omega) rfl rfl (L := [.ref x0, .ref x1, .null, .null, .null]) rfl (have hd : 1 ≤ d - 1 := (by omega); (wr_aload_n rfl rfl rfl (wr_gfR rfl rfl (by decide) h0.1 (wr_gfI rfl rfl (by decide) ⟨by decide, by decide⟩ h0.2.1 (wr_aload_n rfl rfl rfl (wr_gfR rfl rfl (by decide) h0.1 (wr_gfI rfl rfl (by decide) ⟨by decide, by decide⟩ h0.2.2.1 (wr_icmp_gt rfl rfl (cr_ii h0.2.2.2 (fun c1 h2 => (wr_iconst rfl rfl h2)) (fun c3 h4 => (wr_iconst rfl rfl (wr_goto rfl h4))))))))))))
theorem k442_22 {d : Nat} {x0 : Nat} {x1 : Nat} {x2 : Value} {x3 : Value} {x4 : Value} {s0 : Int32} {σ : cm_S} {Q : cm_O → Prop} (hd : 1 ≤ d) (h0 : (s0 = (zi 0) → (cm_tg σ x1 = 16 ∧
wp_r d 442 (54, [.ref x0, .ref x1, .int s0, .ref (cm_R σ x1 1), x4], [.ref (cm_R σ x1 0)], σ) Q)) ∧
(¬ s0 = (zi 0) → (cm_tg σ x1 = 16 ∧
wp_r d 442 (54, [.ref x0, .ref x1, .int s0, .ref (cm_R σ x1 0), x4], [.ref (cm_R σ x1 1)], σ) Q))) : wp_r d 442 (22, [.ref x0, .ref x1, x2, x3, x4], [.int s0], σ) Q :=
  (wr_istore_n rfl rfl rfl (L2 := [.ref x0, .ref x1, .int s0, x3, x4]) rfl (wr_iload_n rfl rfl rfl (wr_if_eq rfl rfl (cr_ii h0 (fun c1 h2 => (wr_aload_n rfl rfl rfl (wr_gfR rfl rfl (by decide) h2.1 (wr_astore_n rfl rfl rfl (L2 := [.ref x0, .ref x1, .int s0, .ref (cm_R σ x1 1), x4]) rfl (wr_iload_n rfl rfl rfl (wr_if_eq rfl rfl (cr_T c1 (wr_aload_n rfl rfl rfl (wr_gfR rfl rfl (by decide) h2.1 h2.2))))))))) (fun c3 h4 => (wr_aload_n rfl rfl rfl (wr_gfR rfl rfl (by decide) h4.1 (wr_goto rfl (wr_astore_n rfl rfl rfl (L2 := [.ref x0, .ref x1, .int s0, .ref (cm_R σ x1 0), x4]) rfl (wr_iload_n rfl rfl rfl (wr_if_eq rfl rfl (cr_F c3 (wr_aload_n rfl rfl rfl (wr_gfR rfl rfl (by decide) h4.1 (wr_goto rfl h4.2)))))))))))))))
theorem k442_54 {d : Nat} {x0 : Nat} {x1 : Nat} {x2 : Int32} {x3 : Nat} {x4 : Value} {s0 : Nat} {σ : cm_S} {Q : cm_O → Prop} (hd : 1 ≤ d) (h0 : cm_tg σ x3 = 15 ∧
cm_tg σ s0 = 15 ∧
cm_tg σ x0 = 21 ∧
wp_c d 439 [.ref x0, .int (cm_I σ x3 1), .int (cm_I σ s0 1)] σ (qi fun r1 σ1 => (r1 = (zi 0) → (cm_tg σ1 x0 = 21 ∧
wp_c d 441 [.ref x0] σ1 (qr fun r2 σ2 => Q (false, .ref r2, σ2)))) ∧
(¬ r1 = (zi 0) → (cm_tg σ1 x3 = 15 ∧
cm_tg σ1 x0 = 21 ∧
wp_c d 380 [.ref x3, .int (cm_I σ1 x3 0), .int (cm_I σ1 x0 3)] σ1 (qr fun r3 σ3 => cm_tg σ3 s0 = 15 ∧
cm_tg σ3 x0 = 21 ∧
wp_c d 380 [.ref s0, .int (cm_I σ3 s0 0), .int (cm_I σ3 x0 4)] σ3 (qr fun r4 σ4 => (x2 = (zi 0) → (∀ σ5, σ5 = cm_al σ4 16 2 → 
wp_c d 386 [.ref (cm_nx σ4), .ref r4, .ref r3] σ5 (qv fun σ6 => Q (false, .ref (cm_nx σ4), σ6)))) ∧
(¬ x2 = (zi 0) → (∀ σ7, σ7 = cm_al σ4 16 2 → 
wp_c d 386 [.ref (cm_nx σ4), .ref r3, .ref r4] σ7 (qv fun σ8 => Q (false, .ref (cm_nx σ4), σ8)))))))))) : wp_r d 442 (54, [.ref x0, .ref x1, .int x2, .ref x3, x4], [.ref s0], σ) Q :=
  (wr_astore rfl rfl rfl (L2 := [.ref x0, .ref x1, .int x2, .ref x3, .ref s0]) rfl (wr_aload_n rfl rfl rfl (wr_aload_n rfl rfl rfl (wr_gfI rfl rfl (by decide) ⟨by decide, by decide⟩ h0.1 (wr_aload rfl rfl rfl (wr_gfI rfl rfl (by decide) ⟨by decide, by decide⟩ h0.2.1 (wr_invwi rfl hd rfl (fun _ => rfl) rfl (cr_dt rfl h0.2.2.1) rfl (wm_i h0.2.2.2 fun r1 σ1 h1 => (wr_if_ne rfl rfl (cr_ii h1 (fun c2 h3 => (wr_aload_n rfl rfl rfl (wr_invwr rfl hd rfl (fun _ => rfl) rfl (cr_dt rfl h3.1) rfl (wm_r h3.2 fun r2 σ2 h4 => (wr_areturn rfl h4))))) (fun c5 h6 => (wr_aload_n rfl rfl rfl (wr_aload_n rfl rfl rfl (wr_gfI rfl rfl (by decide) ⟨by decide, by decide⟩ h6.1 (wr_aload_n rfl rfl rfl (wr_gfI rfl rfl (by decide) ⟨by decide, by decide⟩ h6.2.1 (wr_invwr rfl hd rfl (fun _ => rfl) rfl (cr_dt rfl h6.1) rfl (wm_r h6.2.2 fun r3 σ3 h7 => (wr_astore_n rfl rfl rfl (L2 := [.ref x0, .ref x1, .int x2, .ref r3, .ref s0]) rfl (wr_aload rfl rfl rfl (wr_aload rfl rfl rfl (wr_gfI rfl rfl (by decide) ⟨by decide, by decide⟩ h7.1 (wr_aload_n rfl rfl rfl (wr_gfI rfl rfl (by decide) ⟨by decide, by decide⟩ h7.2.1 (wr_invwr rfl hd rfl (fun _ => rfl) rfl (cr_dt rfl h7.1) rfl (wm_r h7.2.2 fun r4 σ4 h8 => (wr_astore rfl rfl rfl (L2 := [.ref x0, .ref x1, .int x2, .ref r3, .ref r4]) rfl (wr_iload_n rfl rfl rfl (wr_if_eq rfl rfl (cr_ii h8 (fun c9 h10 => (wr_new rfl rfl (wr_dup rfl rfl rfl (wr_aload rfl rfl rfl (wr_aload_n rfl rfl rfl (wr_invpv rfl hd rfl (fun _ => rfl) rfl (cr_60 (tg_new _ _ _) rfl) rfl (wm_v (h10 _ rfl) fun σ6 h11 => (wr_areturn rfl h11)))))))) (fun c12 h13 => (wr_new rfl rfl (wr_dup rfl rfl rfl (wr_aload_n rfl rfl rfl (wr_aload rfl rfl rfl (wr_invpv rfl hd rfl (fun _ => rfl) rfl (cr_60 (tg_new _ _ _) rfl) rfl (wm_v (h13 _ rfl) fun σ8 h14 => (wr_goto rfl (wr_areturn rfl h14)))))))))))))))))))))))))))))))))))))))
/-- SpreadsheetEngine$RowChange.range(LSpreadsheetEngine$Range;)Ljava/lang/Object; : labels [] -/
theorem k443 {d : Nat} {x0 : Nat} {x1 : Nat} {σ : cm_S} {Q : cm_O → Prop} (hd : 2 ≤ d) (h0 : cm_tg σ x0 = 21 ∧
wp_c (d - 1) 442 [.ref x0, .ref x1] σ (qr fun r1 σ1 => Q (false, .ref r1, σ1))) : wp_c d 443 [.ref x0, .ref x1] σ Q :=
  wc_in (by omega) rfl rfl (L := [.ref x0, .ref x1]) rfl (have hd : 1 ≤ d - 1 := (by omega); (wr_aload_n rfl rfl rfl (wr_aload_n rfl rfl rfl (wr_invwr rfl hd rfl (fun _ => rfl) rfl (cr_dt rfl h0.1) rfl (wm_r h0.2 fun r1 σ1 h1 => (wr_areturn rfl h1))))))
/-- SpreadsheetEngine$RowChange.reference(LSpreadsheetEngine$Reference;)LSpreadsheetEngine$Node; : labels [23, 58] -/
theorem k444 {d : Nat} {x0 : Nat} {x1 : Nat} {σ : cm_S} {Q : cm_O → Prop} (hd : 2 ≤ d) (h0 : cm_tg σ x0 = 21 ∧
((cm_I σ x0 1) = (zi 0) → (cm_tg σ x1 = 15 ∧
((cm_I σ x1 1) = (cm_I σ x0 0) → (wp_c (d - 1) 441 [.ref x0] σ (qr fun r1 σ1 => Q (false, .ref r1, σ1)))) ∧
(¬ (cm_I σ x1 1) = (cm_I σ x0 0) → (wp_r (d - 1) 444 (23, [.ref x0, .ref x1, .null], [], σ) Q)))) ∧
(¬ (cm_I σ x0 1) = (zi 0) → (wp_r (d - 1) 444 (23, [.ref x0, .ref x1, .null], [], σ) Q))) : wp_c d 444 [.ref x0, .ref x1] σ Q :=
  wc_in (by omega) rfl rfl (L := [.ref x0, .ref x1, .null]) rfl (have hd : 1 ≤ d - 1 := (by omega); (wr_aload_n rfl rfl rfl (wr_gfI rfl rfl (by decide) ⟨by decide, by decide⟩ h0.1 (wr_if_ne rfl rfl (cr_ii h0.2 (fun c1 h2 => (wr_aload_n rfl rfl rfl (wr_gfI rfl rfl (by decide) ⟨by decide, by decide⟩ h2.1 (wr_aload_n rfl rfl rfl (wr_gfI rfl rfl (by decide) ⟨by decide, by decide⟩ h0.1 (wr_icmp_ne rfl rfl (cr_ii h2.2 (fun c3 h4 => (wr_aload_n rfl rfl rfl (wr_invwr rfl hd rfl (fun _ => rfl) rfl (cr_dt rfl h0.1) rfl (wm_r h4 fun r1 σ1 h5 => (wr_areturn rfl h5))))) (fun c6 h7 => h7)))))))) (fun c8 h9 => h9))))))
theorem k444_23 {d : Nat} {x0 : Nat} {x1 : Nat} {x2 : Value} {σ : cm_S} {Q : cm_O → Prop} (hd : 1 ≤ d) (h0 : cm_tg σ x1 = 15 ∧
cm_tg σ x0 = 21 ∧
((cm_I σ x1 1) < (cm_I σ x0 0) → (wp_r d 444 (58, [.ref x0, .ref x1, x2], [.int (cm_I σ x1 1)], σ) Q)) ∧
(¬ (cm_I σ x1 1) < (cm_I σ x0 0) → (((cm_I σ x0 1) = (zi 0) → (wp_r d 444 (58, [.ref x0, .ref x1, x2], [.int ((cm_I σ x1 1) + (zi (-1)))], σ) Q)) ∧
(¬ (cm_I σ x0 1) = (zi 0) → (wp_r d 444 (58, [.ref x0, .ref x1, x2], [.int ((cm_I σ x1 1) + (zi 1))], σ) Q))))) : wp_r d 444 (23, [.ref x0, .ref x1, x2], [], σ) Q :=
  (wr_aload_n rfl rfl rfl (wr_gfI rfl rfl (by decide) ⟨by decide, by decide⟩ h0.1 (wr_aload_n rfl rfl rfl (wr_gfI rfl rfl (by decide) ⟨by decide, by decide⟩ h0.2.1 (wr_icmp_lt rfl rfl (cr_ii h0.2.2 (fun c1 h2 => (wr_aload_n rfl rfl rfl (wr_gfI rfl rfl (by decide) ⟨by decide, by decide⟩ h0.1 h2))) (fun c3 h4 => (wr_aload_n rfl rfl rfl (wr_gfI rfl rfl (by decide) ⟨by decide, by decide⟩ h0.1 (wr_aload_n rfl rfl rfl (wr_gfI rfl rfl (by decide) ⟨by decide, by decide⟩ h0.2.1 (wr_if_eq rfl rfl (cr_ii h4 (fun c5 h6 => (wr_iconst (k := -1) rfl rfl (wr_iadd rfl rfl (wr_goto rfl h6)))) (fun c7 h8 => (wr_iconst rfl rfl (wr_goto rfl (wr_iadd rfl rfl (wr_goto rfl h8))))))))))))))))))
theorem k444_58 {d : Nat} {x0 : Nat} {x1 : Nat} {x2 : Value} {s0 : Int32} {σ : cm_S} {Q : cm_O → Prop} (hd : 1 ≤ d) (h0 : (s0 < (zi 20) → (cm_tg σ x1 = 15 ∧
wp_c d 380 [.ref x1, .int (cm_I σ x1 0), .int s0] σ (qr fun r1 σ1 => Q (false, .ref r1, σ1)))) ∧
(¬ s0 < (zi 20) → (cm_tg σ x0 = 21 ∧
wp_c d 441 [.ref x0] σ (qr fun r2 σ2 => Q (false, .ref r2, σ2))))) : wp_r d 444 (58, [.ref x0, .ref x1, x2], [.int s0], σ) Q :=
  (wr_istore_n rfl rfl rfl (L2 := [.ref x0, .ref x1, .int s0]) rfl (wr_iload_n rfl rfl rfl (wr_bipush (a := zi 20) rfl rfl rfl (wr_icmp_ge rfl rfl (cr_ii h0 (fun c1 h2 => (wr_aload_n rfl rfl rfl (wr_aload_n rfl rfl rfl (wr_gfI rfl rfl (by decide) ⟨by decide, by decide⟩ h2.1 (wr_iload_n rfl rfl rfl (wr_invwr rfl hd rfl (fun _ => rfl) rfl (cr_dt rfl h2.1) rfl (wm_r h2.2 fun r1 σ1 h3 => (wr_goto rfl (wr_areturn rfl h3))))))))) (fun c4 h5 => (wr_aload_n rfl rfl rfl (wr_invwr rfl hd rfl (fun _ => rfl) rfl (cr_dt rfl h5.1) rfl (wm_r h5.2 fun r2 σ2 h6 => (wr_areturn rfl h6))))))))))
/-- SpreadsheetEngine$RowChange.reference(LSpreadsheetEngine$Reference;)Ljava/lang/Object; : labels [] -/
theorem k445 {d : Nat} {x0 : Nat} {x1 : Nat} {σ : cm_S} {Q : cm_O → Prop} (hd : 2 ≤ d) (h0 : cm_tg σ x0 = 21 ∧
wp_c (d - 1) 444 [.ref x0, .ref x1] σ (qr fun r1 σ1 => Q (false, .ref r1, σ1))) : wp_c d 445 [.ref x0, .ref x1] σ Q :=
  wc_in (by omega) rfl rfl (L := [.ref x0, .ref x1]) rfl (have hd : 1 ≤ d - 1 := (by omega); (wr_aload_n rfl rfl rfl (wr_aload_n rfl rfl rfl (wr_invwr rfl hd rfl (fun _ => rfl) rfl (cr_dt rfl h0.1) rfl (wm_r h0.2 fun r1 σ1 h1 => (wr_areturn rfl h1))))))
/-- SpreadsheetEngine$Printer.binary(LSpreadsheetEngine$Binary;)Ljava/lang/Object; : labels [] -/
theorem k394 {d : Nat} {x0 : Nat} {x1 : Nat} {σ : cm_S} {Q : cm_O → Prop} (hd : 2 ≤ d) (h0 : cm_tg σ x0 = 20 ∧
wp_c (d - 1) 395 [.ref x0, .ref x1] σ (qr fun r1 σ1 => Q (false, .ref r1, σ1))) : wp_c d 394 [.ref x0, .ref x1] σ Q :=
  wc_in (by omega) rfl rfl (L := [.ref x0, .ref x1]) rfl (have hd : 1 ≤ d - 1 := (by omega); (wr_aload_n rfl rfl rfl (wr_aload_n rfl rfl rfl (wr_invwr rfl hd rfl (fun _ => rfl) rfl (cr_dt rfl h0.1) rfl (wm_r h0.2 fun r1 σ1 h1 => (wr_areturn rfl h1))))))
/-- SpreadsheetEngine$Printer.binary(LSpreadsheetEngine$Binary;)Ljava/lang/StringBuilder; : labels [] -/
theorem k395 {d : Nat} {x0 : Nat} {x1 : Nat} {σ : cm_S} {Q : cm_O → Prop} (hd : 2 ≤ d) (h0 : cm_tg σ x1 = 19 ∧
∃ mm, cp_disp 8 (cm_tg σ (cm_R σ x1 1)) = some mm ∧ cm_rk cp mm = 3 ∧
wp_c (d - 1) mm [.ref (cm_R σ x1 1), .ref x0] σ (qr fun r1 σ1 => (r1 = 0 ∨ cp_cast 4 (cm_tg σ1 r1) = some true) ∧
cm_tg σ1 x1 = 19 ∧
cm_tg σ1 r1 = 28 ∧
wp_c (d - 1) 563 [.ref r1, .ref (cm_R σ1 x1 0)] σ1 (qr fun r2 σ2 => cm_tg σ2 x1 = 19 ∧
∃ mm, cp_disp 8 (cm_tg σ2 (cm_R σ2 x1 2)) = some mm ∧ cm_rk cp mm = 3 ∧
wp_c (d - 1) mm [.ref (cm_R σ2 x1 2), .ref x0] σ2 (qr fun r3 σ3 => (r3 = 0 ∨ cp_cast 4 (cm_tg σ3 r3) = some true) ∧
Q (false, .ref r3, σ3))))) : wp_c d 395 [.ref x0, .ref x1] σ Q :=
  wc_in (by omega) rfl rfl (L := [.ref x0, .ref x1]) rfl (have hd : 1 ≤ d - 1 := (by omega); (wr_aload_n rfl rfl rfl (wr_gfR rfl rfl (by decide) h0.1 (wr_aload_n rfl rfl rfl (wr_invwr rfl hd rfl (fun _ => rfl) rfl h0.2.choose_spec.1 h0.2.choose_spec.2.1 (wm_r h0.2.choose_spec.2.2 fun r1 σ1 h1 => (wr_checkcast rfl rfl h1.1 (wr_aload_n rfl rfl rfl (wr_gfR rfl rfl (by decide) h1.2.1 (wr_invwr rfl hd rfl (fun _ => rfl) rfl (cr_dt rfl h1.2.2.1) rfl (wm_r h1.2.2.2 fun r2 σ2 h2 => (wr_pop rfl rfl rfl (wr_aload_n rfl rfl rfl (wr_gfR rfl rfl (by decide) h2.1 (wr_aload_n rfl rfl rfl (wr_invwr rfl hd rfl (fun _ => rfl) rfl h2.2.choose_spec.1 h2.2.choose_spec.2.1 (wm_r h2.2.choose_spec.2.2 fun r3 σ3 h3 => (wr_checkcast rfl rfl h3.1 (wr_areturn rfl h3.2)))))))))))))))))))
/-- SpreadsheetEngine$Printer.broken(LSpreadsheetEngine$Broken;)Ljava/lang/Object; : labels [] -/
theorem k396 {d : Nat} {x0 : Nat} {x1 : Nat} {σ : cm_S} {Q : cm_O → Prop} (hd : 2 ≤ d) (h0 : cm_tg σ x0 = 20 ∧
wp_c (d - 1) 397 [.ref x0, .ref x1] σ (qr fun r1 σ1 => Q (false, .ref r1, σ1))) : wp_c d 396 [.ref x0, .ref x1] σ Q :=
  wc_in (by omega) rfl rfl (L := [.ref x0, .ref x1]) rfl (have hd : 1 ≤ d - 1 := (by omega); (wr_aload_n rfl rfl rfl (wr_aload_n rfl rfl rfl (wr_invwr rfl hd rfl (fun _ => rfl) rfl (cr_dt rfl h0.1) rfl (wm_r h0.2 fun r1 σ1 h1 => (wr_areturn rfl h1))))))
/-- SpreadsheetEngine$Printer.broken(LSpreadsheetEngine$Broken;)Ljava/lang/StringBuilder; : labels [] -/
theorem k397 {d : Nat} {x0 : Nat} {x1 : Nat} {σ : cm_S} {Q : cm_O → Prop} (hd : 2 ≤ d) (h0 : cm_tg σ x0 = 20 ∧
cm_tg σ (cm_R σ x0 0) = 28 ∧
wp_c (d - 1) 563 [.ref (cm_R σ x0 0), .ref 10] σ (qr fun r1 σ1 => Q (false, .ref r1, σ1))) : wp_c d 397 [.ref x0, .ref x1] σ Q :=
  wc_in (by omega) rfl rfl (L := [.ref x0, .ref x1]) rfl (have hd : 1 ≤ d - 1 := (by omega); (wr_aload_n rfl rfl rfl (wr_gfR rfl rfl (by decide) h0.1 (wr_ldc rfl (w := .ref 10) rfl rfl (wr_invwr rfl hd rfl (fun _ => rfl) rfl (cr_dt rfl h0.2.1) rfl (wm_r h0.2.2 fun r1 σ1 h1 => (wr_areturn rfl h1)))))))
/-- SpreadsheetEngine$Printer.call(LSpreadsheetEngine$Call;)Ljava/lang/Object; : labels [] -/
theorem k398 {d : Nat} {x0 : Nat} {x1 : Nat} {σ : cm_S} {Q : cm_O → Prop} (hd : 2 ≤ d) (h0 : cm_tg σ x0 = 20 ∧
wp_c (d - 1) 399 [.ref x0, .ref x1] σ (qr fun r1 σ1 => Q (false, .ref r1, σ1))) : wp_c d 398 [.ref x0, .ref x1] σ Q :=
  wc_in (by omega) rfl rfl (L := [.ref x0, .ref x1]) rfl (have hd : 1 ≤ d - 1 := (by omega); (wr_aload_n rfl rfl rfl (wr_aload_n rfl rfl rfl (wr_invwr rfl hd rfl (fun _ => rfl) rfl (cr_dt rfl h0.1) rfl (wm_r h0.2 fun r1 σ1 h1 => (wr_areturn rfl h1))))))
/-- SpreadsheetEngine$Printer.call(LSpreadsheetEngine$Call;)Ljava/lang/StringBuilder; : labels [22] -/
theorem k399 {d : Nat} {x0 : Nat} {x1 : Nat} {σ : cm_S} {Q : cm_O → Prop} (hd : 2 ≤ d) (h0 : cm_tg σ x0 = 20 ∧
cm_tg σ x1 = 17 ∧
cm_tg σ (cm_R σ x1 0) = 60 ∧
wp_c (d - 1) 505 [.ref (cm_R σ x1 0)] σ (qr fun r1 σ1 => cm_tg σ1 (cm_R σ x0 0) = 28 ∧
wp_c (d - 1) 563 [.ref (cm_R σ x0 0), .ref r1] σ1 (qr fun r2 σ2 => cm_tg σ2 r2 = 28 ∧
wp_c (d - 1) 562 [.ref r2, .int (zi 40)] σ2 (qr fun r3 σ3 => wp_r (d - 1) 399 (22, [.ref x0, .ref x1, .int (zi 0)], [], σ3) Q)))) : wp_c d 399 [.ref x0, .ref x1] σ Q :=
  wc_in (by omega) rfl rfl (L := [.ref x0, .ref x1, .null]) rfl (have hd : 1 ≤ d - 1 := (by omega); (wr_aload_n rfl rfl rfl (wr_gfR rfl rfl (by decide) h0.1 (wr_aload_n rfl rfl rfl (wr_gfR rfl rfl (by decide) h0.2.1 (wr_invwr rfl hd rfl (fun _ => rfl) rfl (cr_dt rfl h0.2.2.1) rfl (wm_r h0.2.2.2 fun r1 σ1 h1 => (wr_invwr rfl hd rfl (fun _ => rfl) rfl (cr_dt rfl h1.1) rfl (wm_r h1.2 fun r2 σ2 h2 => (wr_bipush (a := zi 40) rfl rfl rfl (wr_invwr rfl hd rfl (fun _ => rfl) rfl (cr_dt rfl h2.1) rfl (wm_r h2.2 fun r3 σ3 h3 => (wr_pop rfl rfl rfl (wr_iconst rfl rfl (wr_istore_n rfl rfl rfl (L2 := [.ref x0, .ref x1, .int (zi 0)]) rfl h3)))))))))))))))
theorem k399_22 {d : Nat} {x0 : Nat} {x1 : Nat} {x2 : Int32} {σ : cm_S} {Q : cm_O → Prop} (hd : 1 ≤ d) (h0 : cm_tg σ x1 = 17 ∧
cm_tg σ (cm_R σ x1 1) = 25 ∧
wp_c d 470 [.ref (cm_R σ x1 1)] σ (qi fun r1 σ1 => (x2 < r1 → (((zi 0) < x2 → (cm_tg σ1 x0 = 20 ∧
cm_tg σ1 (cm_R σ1 x0 0) = 28 ∧
wp_c d 562 [.ref (cm_R σ1 x0 0), .int (zi 44)] σ1 (qr fun r2 σ2 => cm_tg σ2 x1 = 17 ∧
cm_tg σ2 (cm_R σ2 x1 1) = 25 ∧
wp_c d 463 [.ref (cm_R σ2 x1 1), .int x2] σ2 (qr fun r3 σ3 => (r3 = 0 ∨ cp_cast 0 (cm_tg σ3 r3) = some true) ∧
∃ mm, cp_disp 8 (cm_tg σ3 r3) = some mm ∧ cm_rk cp mm = 3 ∧
wp_c d mm [.ref r3, .ref x0] σ3 (qr fun r4 σ4 => wp_r d 399 (22, [.ref x0, .ref x1, .int (x2 + zi 1)], [], σ4) Q))))) ∧
(¬ (zi 0) < x2 → (cm_tg σ1 x1 = 17 ∧
cm_tg σ1 (cm_R σ1 x1 1) = 25 ∧
wp_c d 463 [.ref (cm_R σ1 x1 1), .int x2] σ1 (qr fun r5 σ5 => (r5 = 0 ∨ cp_cast 0 (cm_tg σ5 r5) = some true) ∧
∃ mm, cp_disp 8 (cm_tg σ5 r5) = some mm ∧ cm_rk cp mm = 3 ∧
wp_c d mm [.ref r5, .ref x0] σ5 (qr fun r6 σ6 => wp_r d 399 (22, [.ref x0, .ref x1, .int (x2 + zi 1)], [], σ6) Q)))))) ∧
(¬ x2 < r1 → (cm_tg σ1 x0 = 20 ∧
cm_tg σ1 (cm_R σ1 x0 0) = 28 ∧
wp_c d 562 [.ref (cm_R σ1 x0 0), .int (zi 41)] σ1 (qr fun r7 σ7 => Q (false, .ref r7, σ7)))))) : wp_r d 399 (22, [.ref x0, .ref x1, .int x2], [], σ) Q :=
  (wr_iload_n rfl rfl rfl (wr_aload_n rfl rfl rfl (wr_gfR rfl rfl (by decide) h0.1 (wr_invfi rfl hd rfl (fun _ => rfl) rfl (cr_dt rfl h0.2.1) rfl (wm_i h0.2.2 fun r1 σ1 h1 => (wr_icmp_ge rfl rfl (cr_ii h1 (fun c2 h3 => (wr_iload_n rfl rfl rfl (wr_if_le rfl rfl (cr_ii h3 (fun c4 h5 => (wr_aload_n rfl rfl rfl (wr_gfR rfl rfl (by decide) h5.1 (wr_bipush (a := zi 44) rfl rfl rfl (wr_invwr rfl hd rfl (fun _ => rfl) rfl (cr_dt rfl h5.2.1) rfl (wm_r h5.2.2 fun r2 σ2 h6 => (wr_pop rfl rfl rfl (wr_aload_n rfl rfl rfl (wr_gfR rfl rfl (by decide) h6.1 (wr_iload_n rfl rfl rfl (wr_invfr rfl hd rfl (fun _ => rfl) rfl (cr_dt rfl h6.2.1) rfl (wm_r h6.2.2 fun r3 σ3 h7 => (wr_checkcast rfl rfl h7.1 (wr_aload_n rfl rfl rfl (wr_invwr rfl hd rfl (fun _ => rfl) rfl h7.2.choose_spec.1 h7.2.choose_spec.2.1 (wm_r h7.2.choose_spec.2.2 fun r4 σ4 h8 => (wr_pop rfl rfl rfl (wr_iinc rfl rfl rfl (L2 := [.ref x0, .ref x1, .int (x2 + zi 1)]) rfl (wr_goto rfl h8))))))))))))))))))) (fun c9 h10 => (wr_aload_n rfl rfl rfl (wr_gfR rfl rfl (by decide) h10.1 (wr_iload_n rfl rfl rfl (wr_invfr rfl hd rfl (fun _ => rfl) rfl (cr_dt rfl h10.2.1) rfl (wm_r h10.2.2 fun r5 σ5 h11 => (wr_checkcast rfl rfl h11.1 (wr_aload_n rfl rfl rfl (wr_invwr rfl hd rfl (fun _ => rfl) rfl h11.2.choose_spec.1 h11.2.choose_spec.2.1 (wm_r h11.2.choose_spec.2.2 fun r6 σ6 h12 => (wr_pop rfl rfl rfl (wr_iinc rfl rfl rfl (L2 := [.ref x0, .ref x1, .int (x2 + zi 1)]) rfl (wr_goto rfl h12))))))))))))))))) (fun c13 h14 => (wr_aload_n rfl rfl rfl (wr_gfR rfl rfl (by decide) h14.1 (wr_bipush (a := zi 41) rfl rfl rfl (wr_invwr rfl hd rfl (fun _ => rfl) rfl (cr_dt rfl h14.2.1) rfl (wm_r h14.2.2 fun r7 σ7 h15 => (wr_areturn rfl h15))))))))))))))
/-- SpreadsheetEngine$Printer.<init>()V : labels [] -/
theorem k400 {d : Nat} {x0 : Nat} {σ : cm_S} {Q : cm_O → Prop} (hd : 2 ≤ d) (h0 : cm_tg σ x0 ≠ 0 ∧
∀ σ1, σ1 = cm_al σ 28 4 → 
wp_c (d - 1) 567 [.ref (cm_nx σ), .ref 16] σ1 (qv fun σ2 => cm_tg σ2 x0 = 20 ∧
cm_K cp ≤ x0 ∧
(∀ σ3, σ3 = cm_pR σ2 x0 0 (cm_nx σ) → 
Q (false, .int 0, σ3)))) : wp_c d 400 [.ref x0] σ Q :=
  wc_in (by omega) rfl rfl (L := [.ref x0]) rfl (have hd : 1 ≤ d - 1 := (by omega); (wr_aload_n rfl rfl rfl (wr_objinit rfl hd rfl rfl h0.1 (wr_aload_n rfl rfl rfl (wr_new rfl rfl (wr_dup rfl rfl rfl (wr_ldc rfl (w := .ref 16) rfl rfl (wr_invpv rfl hd rfl (fun _ => rfl) rfl (cr_60 (tg_new _ _ _) rfl) rfl (wm_v (h0.2 _ rfl) fun σ2 h1 => (wr_pfR rfl rfl (by decide) h1.1 h1.2.1 (wr_return rfl (h1.2.2 _ rfl))))))))))))
/-- SpreadsheetEngine$Printer.literal(LSpreadsheetEngine$Literal;)Ljava/lang/Object; : labels [] -/
theorem k401 {d : Nat} {x0 : Nat} {x1 : Nat} {σ : cm_S} {Q : cm_O → Prop} (hd : 2 ≤ d) (h0 : cm_tg σ x0 = 20 ∧
wp_c (d - 1) 402 [.ref x0, .ref x1] σ (qr fun r1 σ1 => Q (false, .ref r1, σ1))) : wp_c d 401 [.ref x0, .ref x1] σ Q :=
  wc_in (by omega) rfl rfl (L := [.ref x0, .ref x1]) rfl (have hd : 1 ≤ d - 1 := (by omega); (wr_aload_n rfl rfl rfl (wr_aload_n rfl rfl rfl (wr_invwr rfl hd rfl (fun _ => rfl) rfl (cr_dt rfl h0.1) rfl (wm_r h0.2 fun r1 σ1 h1 => (wr_areturn rfl h1))))))
/-- SpreadsheetEngine$Printer.literal(LSpreadsheetEngine$Literal;)Ljava/lang/StringBuilder; : labels [] -/
theorem k402 {d : Nat} {x0 : Nat} {x1 : Nat} {σ : cm_S} {Q : cm_O → Prop} (hd : 2 ≤ d) (h0 : cm_tg σ x0 = 20 ∧
cm_tg σ x1 = 11 ∧
cm_tg σ (cm_R σ x0 0) = 28 ∧
wp_c (d - 1) 564 [.ref (cm_R σ x0 0), .int (cm_I σ x1 0)] σ (qr fun r1 σ1 => Q (false, .ref r1, σ1))) : wp_c d 402 [.ref x0, .ref x1] σ Q :=
  wc_in (by omega) rfl rfl (L := [.ref x0, .ref x1]) rfl (have hd : 1 ≤ d - 1 := (by omega); (wr_aload_n rfl rfl rfl (wr_gfR rfl rfl (by decide) h0.1 (wr_aload_n rfl rfl rfl (wr_gfI rfl rfl (by decide) ⟨by decide, by decide⟩ h0.2.1 (wr_invwr rfl hd rfl (fun _ => rfl) rfl (cr_dt rfl h0.2.2.1) rfl (wm_r h0.2.2.2 fun r1 σ1 h1 => (wr_areturn rfl h1))))))))
/-- SpreadsheetEngine$Printer.name(LSpreadsheetEngine$Name;)Ljava/lang/Object; : labels [] -/
theorem k403 {d : Nat} {x0 : Nat} {x1 : Nat} {σ : cm_S} {Q : cm_O → Prop} (hd : 2 ≤ d) (h0 : cm_tg σ x0 = 20 ∧
wp_c (d - 1) 404 [.ref x0, .ref x1] σ (qr fun r1 σ1 => Q (false, .ref r1, σ1))) : wp_c d 403 [.ref x0, .ref x1] σ Q :=
  wc_in (by omega) rfl rfl (L := [.ref x0, .ref x1]) rfl (have hd : 1 ≤ d - 1 := (by omega); (wr_aload_n rfl rfl rfl (wr_aload_n rfl rfl rfl (wr_invwr rfl hd rfl (fun _ => rfl) rfl (cr_dt rfl h0.1) rfl (wm_r h0.2 fun r1 σ1 h1 => (wr_areturn rfl h1))))))
/-- SpreadsheetEngine$Printer.name(LSpreadsheetEngine$Name;)Ljava/lang/StringBuilder; : labels [] -/
theorem k404 {d : Nat} {x0 : Nat} {x1 : Nat} {σ : cm_S} {Q : cm_O → Prop} (hd : 2 ≤ d) (h0 : cm_tg σ x0 = 20 ∧
cm_tg σ x1 = 13 ∧
cm_tg σ (cm_R σ x0 0) = 28 ∧
wp_c (d - 1) 563 [.ref (cm_R σ x0 0), .ref (cm_R σ x1 0)] σ (qr fun r1 σ1 => Q (false, .ref r1, σ1))) : wp_c d 404 [.ref x0, .ref x1] σ Q :=
  wc_in (by omega) rfl rfl (L := [.ref x0, .ref x1]) rfl (have hd : 1 ≤ d - 1 := (by omega); (wr_aload_n rfl rfl rfl (wr_gfR rfl rfl (by decide) h0.1 (wr_aload_n rfl rfl rfl (wr_gfR rfl rfl (by decide) h0.2.1 (wr_invwr rfl hd rfl (fun _ => rfl) rfl (cr_dt rfl h0.2.2.1) rfl (wm_r h0.2.2.2 fun r1 σ1 h1 => (wr_areturn rfl h1))))))))
/-- SpreadsheetEngine$Printer.negation(LSpreadsheetEngine$Negation;)Ljava/lang/Object; : labels [] -/
theorem k405 {d : Nat} {x0 : Nat} {x1 : Nat} {σ : cm_S} {Q : cm_O → Prop} (hd : 2 ≤ d) (h0 : cm_tg σ x0 = 20 ∧
wp_c (d - 1) 406 [.ref x0, .ref x1] σ (qr fun r1 σ1 => Q (false, .ref r1, σ1))) : wp_c d 405 [.ref x0, .ref x1] σ Q :=
  wc_in (by omega) rfl rfl (L := [.ref x0, .ref x1]) rfl (have hd : 1 ≤ d - 1 := (by omega); (wr_aload_n rfl rfl rfl (wr_aload_n rfl rfl rfl (wr_invwr rfl hd rfl (fun _ => rfl) rfl (cr_dt rfl h0.1) rfl (wm_r h0.2 fun r1 σ1 h1 => (wr_areturn rfl h1))))))
/-- SpreadsheetEngine$Printer.negation(LSpreadsheetEngine$Negation;)Ljava/lang/StringBuilder; : labels [] -/
theorem k406 {d : Nat} {x0 : Nat} {x1 : Nat} {σ : cm_S} {Q : cm_O → Prop} (hd : 2 ≤ d) (h0 : cm_tg σ x0 = 20 ∧
cm_tg σ (cm_R σ x0 0) = 28 ∧
wp_c (d - 1) 562 [.ref (cm_R σ x0 0), .int (zi 45)] σ (qr fun r1 σ1 => cm_tg σ1 x1 = 18 ∧
∃ mm, cp_disp 8 (cm_tg σ1 (cm_R σ1 x1 0)) = some mm ∧ cm_rk cp mm = 3 ∧
wp_c (d - 1) mm [.ref (cm_R σ1 x1 0), .ref x0] σ1 (qr fun r2 σ2 => (r2 = 0 ∨ cp_cast 4 (cm_tg σ2 r2) = some true) ∧
Q (false, .ref r2, σ2)))) : wp_c d 406 [.ref x0, .ref x1] σ Q :=
  wc_in (by omega) rfl rfl (L := [.ref x0, .ref x1]) rfl (have hd : 1 ≤ d - 1 := (by omega); (wr_aload_n rfl rfl rfl (wr_gfR rfl rfl (by decide) h0.1 (wr_bipush (a := zi 45) rfl rfl rfl (wr_invwr rfl hd rfl (fun _ => rfl) rfl (cr_dt rfl h0.2.1) rfl (wm_r h0.2.2 fun r1 σ1 h1 => (wr_pop rfl rfl rfl (wr_aload_n rfl rfl rfl (wr_gfR rfl rfl (by decide) h1.1 (wr_aload_n rfl rfl rfl (wr_invwr rfl hd rfl (fun _ => rfl) rfl h1.2.choose_spec.1 h1.2.choose_spec.2.1 (wm_r h1.2.choose_spec.2.2 fun r2 σ2 h2 => (wr_checkcast rfl rfl h2.1 (wr_areturn rfl h2.2))))))))))))))
/-- SpreadsheetEngine$Printer.parentheses(LSpreadsheetEngine$Parentheses;)Ljava/lang/Object; : labels [] -/
theorem k407 {d : Nat} {x0 : Nat} {x1 : Nat} {σ : cm_S} {Q : cm_O → Prop} (hd : 2 ≤ d) (h0 : cm_tg σ x0 = 20 ∧
wp_c (d - 1) 408 [.ref x0, .ref x1] σ (qr fun r1 σ1 => Q (false, .ref r1, σ1))) : wp_c d 407 [.ref x0, .ref x1] σ Q :=
  wc_in (by omega) rfl rfl (L := [.ref x0, .ref x1]) rfl (have hd : 1 ≤ d - 1 := (by omega); (wr_aload_n rfl rfl rfl (wr_aload_n rfl rfl rfl (wr_invwr rfl hd rfl (fun _ => rfl) rfl (cr_dt rfl h0.1) rfl (wm_r h0.2 fun r1 σ1 h1 => (wr_areturn rfl h1))))))
/-- SpreadsheetEngine$Printer.parentheses(LSpreadsheetEngine$Parentheses;)Ljava/lang/StringBuilder; : labels [] -/
theorem k408 {d : Nat} {x0 : Nat} {x1 : Nat} {σ : cm_S} {Q : cm_O → Prop} (hd : 2 ≤ d) (h0 : cm_tg σ x0 = 20 ∧
cm_tg σ (cm_R σ x0 0) = 28 ∧
wp_c (d - 1) 562 [.ref (cm_R σ x0 0), .int (zi 40)] σ (qr fun r1 σ1 => cm_tg σ1 x1 = 12 ∧
∃ mm, cp_disp 8 (cm_tg σ1 (cm_R σ1 x1 0)) = some mm ∧ cm_rk cp mm = 3 ∧
wp_c (d - 1) mm [.ref (cm_R σ1 x1 0), .ref x0] σ1 (qr fun r2 σ2 => (r2 = 0 ∨ cp_cast 4 (cm_tg σ2 r2) = some true) ∧
cm_tg σ2 r2 = 28 ∧
wp_c (d - 1) 562 [.ref r2, .int (zi 41)] σ2 (qr fun r3 σ3 => Q (false, .ref r3, σ3))))) : wp_c d 408 [.ref x0, .ref x1] σ Q :=
  wc_in (by omega) rfl rfl (L := [.ref x0, .ref x1]) rfl (have hd : 1 ≤ d - 1 := (by omega); (wr_aload_n rfl rfl rfl (wr_gfR rfl rfl (by decide) h0.1 (wr_bipush (a := zi 40) rfl rfl rfl (wr_invwr rfl hd rfl (fun _ => rfl) rfl (cr_dt rfl h0.2.1) rfl (wm_r h0.2.2 fun r1 σ1 h1 => (wr_pop rfl rfl rfl (wr_aload_n rfl rfl rfl (wr_gfR rfl rfl (by decide) h1.1 (wr_aload_n rfl rfl rfl (wr_invwr rfl hd rfl (fun _ => rfl) rfl h1.2.choose_spec.1 h1.2.choose_spec.2.1 (wm_r h1.2.choose_spec.2.2 fun r2 σ2 h2 => (wr_checkcast rfl rfl h2.1 (wr_bipush (a := zi 41) rfl rfl rfl (wr_invwr rfl hd rfl (fun _ => rfl) rfl (cr_dt rfl h2.2.1) rfl (wm_r h2.2.2 fun r3 σ3 h3 => (wr_areturn rfl h3)))))))))))))))))
/-- SpreadsheetEngine$Printer.put(LSpreadsheetEngine$Reference;)V : labels [18] -/
theorem k409 {d : Nat} {x0 : Nat} {x1 : Nat} {σ : cm_S} {Q : cm_O → Prop} (hd : 2 ≤ d) (h0 : cm_tg σ x0 = 20 ∧
cm_tg σ x1 = 15 ∧
((cm_I σ x1 2) = (zi 0) → (wp_r (d - 1) 409 (18, [.ref x0, .ref x1], [.ref 17, .ref (cm_R σ x0 0)], σ) Q)) ∧
(¬ (cm_I σ x1 2) = (zi 0) → (wp_r (d - 1) 409 (18, [.ref x0, .ref x1], [.ref 20, .ref (cm_R σ x0 0)], σ) Q))) : wp_c d 409 [.ref x0, .ref x1] σ Q :=
  wc_in (by omega) rfl rfl (L := [.ref x0, .ref x1]) rfl (have hd : 1 ≤ d - 1 := (by omega); (wr_aload_n rfl rfl rfl (wr_gfR rfl rfl (by decide) h0.1 (wr_aload_n rfl rfl rfl (wr_gfI rfl rfl (by decide) ⟨by decide, by decide⟩ h0.2.1 (wr_if_eq rfl rfl (cr_ii h0.2.2 (fun c1 h2 => (wr_ldc rfl (w := .ref 17) rfl rfl h2)) (fun c3 h4 => (wr_ldc rfl (w := .ref 20) rfl rfl (wr_goto rfl h4))))))))))
theorem k409_18 {d : Nat} {x0 : Nat} {x1 : Nat} {s0 : Nat} {s1 : Nat} {σ : cm_S} {Q : cm_O → Prop} (hd : 1 ≤ d) (h0 : cm_tg σ s0 = 28 ∧
wp_c d 563 [.ref s0, .ref s1] σ (qr fun r1 σ1 => cm_tg σ1 x1 = 15 ∧
cm_tg σ1 r1 = 28 ∧
wp_c d 562 [.ref r1, .int ((((zi 65) + (cm_I σ1 x1 0)).toUInt32 % 65536).toInt32)] σ1 (qr fun r2 σ2 => cm_tg σ2 x1 = 15 ∧
((cm_I σ2 x1 3) = (zi 0) → (cm_tg σ2 r2 = 28 ∧
wp_c d 563 [.ref r2, .ref 17] σ2 (qr fun r3 σ3 => cm_tg σ3 x1 = 15 ∧
cm_tg σ3 r3 = 28 ∧
wp_c d 564 [.ref r3, .int ((cm_I σ3 x1 1) + (zi 1))] σ3 (qr fun r4 σ4 => Q (false, .int 0, σ4))))) ∧
(¬ (cm_I σ2 x1 3) = (zi 0) → (cm_tg σ2 r2 = 28 ∧
wp_c d 563 [.ref r2, .ref 20] σ2 (qr fun r5 σ5 => cm_tg σ5 x1 = 15 ∧
cm_tg σ5 r5 = 28 ∧
wp_c d 564 [.ref r5, .int ((cm_I σ5 x1 1) + (zi 1))] σ5 (qr fun r6 σ6 => Q (false, .int 0, σ6)))))))) : wp_r d 409 (18, [.ref x0, .ref x1], [.ref s1, .ref s0], σ) Q :=
  (wr_invwr rfl hd rfl (fun _ => rfl) rfl (cr_dt rfl h0.1) rfl (wm_r h0.2 fun r1 σ1 h1 => (wr_bipush (a := zi 65) rfl rfl rfl (wr_aload_n rfl rfl rfl (wr_gfI rfl rfl (by decide) ⟨by decide, by decide⟩ h1.1 (wr_iadd rfl rfl (wr_i2c rfl rfl (wr_invwr rfl hd rfl (fun _ => rfl) rfl (cr_dt rfl h1.2.1) rfl (wm_r h1.2.2 fun r2 σ2 h2 => (wr_aload_n rfl rfl rfl (wr_gfI rfl rfl (by decide) ⟨by decide, by decide⟩ h2.1 (wr_if_eq rfl rfl (cr_ii h2.2 (fun c3 h4 => (wr_ldc rfl (w := .ref 17) rfl rfl (wr_invwr rfl hd rfl (fun _ => rfl) rfl (cr_dt rfl h4.1) rfl (wm_r h4.2 fun r3 σ3 h5 => (wr_aload_n rfl rfl rfl (wr_gfI rfl rfl (by decide) ⟨by decide, by decide⟩ h5.1 (wr_iconst rfl rfl (wr_iadd rfl rfl (wr_invwr rfl hd rfl (fun _ => rfl) rfl (cr_dt rfl h5.2.1) rfl (wm_r h5.2.2 fun r4 σ4 h6 => (wr_pop rfl rfl rfl (wr_return rfl h6)))))))))))) (fun c7 h8 => (wr_ldc rfl (w := .ref 20) rfl rfl (wr_goto rfl (wr_invwr rfl hd rfl (fun _ => rfl) rfl (cr_dt rfl h8.1) rfl (wm_r h8.2 fun r5 σ5 h9 => (wr_aload_n rfl rfl rfl (wr_gfI rfl rfl (by decide) ⟨by decide, by decide⟩ h9.1 (wr_iconst rfl rfl (wr_iadd rfl rfl (wr_invwr rfl hd rfl (fun _ => rfl) rfl (cr_dt rfl h9.2.1) rfl (wm_r h9.2.2 fun r6 σ6 h10 => (wr_pop rfl rfl rfl (wr_return rfl h10))))))))))))))))))))))))))
/-- SpreadsheetEngine$Printer.range(LSpreadsheetEngine$Range;)Ljava/lang/Object; : labels [] -/
theorem k410 {d : Nat} {x0 : Nat} {x1 : Nat} {σ : cm_S} {Q : cm_O → Prop} (hd : 2 ≤ d) (h0 : cm_tg σ x0 = 20 ∧
wp_c (d - 1) 411 [.ref x0, .ref x1] σ (qr fun r1 σ1 => Q (false, .ref r1, σ1))) : wp_c d 410 [.ref x0, .ref x1] σ Q :=
  wc_in (by omega) rfl rfl (L := [.ref x0, .ref x1]) rfl (have hd : 1 ≤ d - 1 := (by omega); (wr_aload_n rfl rfl rfl (wr_aload_n rfl rfl rfl (wr_invwr rfl hd rfl (fun _ => rfl) rfl (cr_dt rfl h0.1) rfl (wm_r h0.2 fun r1 σ1 h1 => (wr_areturn rfl h1))))))
/-- SpreadsheetEngine$Printer.range(LSpreadsheetEngine$Range;)Ljava/lang/StringBuilder; : labels [] -/
theorem k411 {d : Nat} {x0 : Nat} {x1 : Nat} {σ : cm_S} {Q : cm_O → Prop} (hd : 2 ≤ d) (h0 : cm_tg σ x1 = 16 ∧
cm_tg σ x0 = 20 ∧
wp_c (d - 1) 409 [.ref x0, .ref (cm_R σ x1 0)] σ (qv fun σ1 => cm_tg σ1 x0 = 20 ∧
cm_tg σ1 (cm_R σ1 x0 0) = 28 ∧
wp_c (d - 1) 562 [.ref (cm_R σ1 x0 0), .int (zi 58)] σ1 (qr fun r2 σ2 => cm_tg σ2 x1 = 16 ∧
cm_tg σ2 x0 = 20 ∧
wp_c (d - 1) 409 [.ref x0, .ref (cm_R σ2 x1 1)] σ2 (qv fun σ3 => cm_tg σ3 x0 = 20 ∧
Q (false, .ref (cm_R σ3 x0 0), σ3))))) : wp_c d 411 [.ref x0, .ref x1] σ Q :=
  wc_in (by omega) rfl rfl (L := [.ref x0, .ref x1]) rfl (have hd : 1 ≤ d - 1 := (by omega); (wr_aload_n rfl rfl rfl (wr_aload_n rfl rfl rfl (wr_gfR rfl rfl (by decide) h0.1 (wr_invwv rfl hd rfl (fun _ => rfl) rfl (cr_dt rfl h0.2.1) rfl (wm_v h0.2.2 fun σ1 h1 => (wr_aload_n rfl rfl rfl (wr_gfR rfl rfl (by decide) h1.1 (wr_bipush (a := zi 58) rfl rfl rfl (wr_invwr rfl hd rfl (fun _ => rfl) rfl (cr_dt rfl h1.2.1) rfl (wm_r h1.2.2 fun r2 σ2 h2 => (wr_pop rfl rfl rfl (wr_aload_n rfl rfl rfl (wr_aload_n rfl rfl rfl (wr_gfR rfl rfl (by decide) h2.1 (wr_invwv rfl hd rfl (fun _ => rfl) rfl (cr_dt rfl h2.2.1) rfl (wm_v h2.2.2 fun σ3 h3 => (wr_aload_n rfl rfl rfl (wr_gfR rfl rfl (by decide) h3.1 (wr_areturn rfl h3.2))))))))))))))))))))
/-- SpreadsheetEngine$Printer.reference(LSpreadsheetEngine$Reference;)Ljava/lang/Object; : labels [] -/
theorem k412 {d : Nat} {x0 : Nat} {x1 : Nat} {σ : cm_S} {Q : cm_O → Prop} (hd : 2 ≤ d) (h0 : cm_tg σ x0 = 20 ∧
wp_c (d - 1) 413 [.ref x0, .ref x1] σ (qr fun r1 σ1 => Q (false, .ref r1, σ1))) : wp_c d 412 [.ref x0, .ref x1] σ Q :=
  wc_in (by omega) rfl rfl (L := [.ref x0, .ref x1]) rfl (have hd : 1 ≤ d - 1 := (by omega); (wr_aload_n rfl rfl rfl (wr_aload_n rfl rfl rfl (wr_invwr rfl hd rfl (fun _ => rfl) rfl (cr_dt rfl h0.1) rfl (wm_r h0.2 fun r1 σ1 h1 => (wr_areturn rfl h1))))))
/-- SpreadsheetEngine$Printer.reference(LSpreadsheetEngine$Reference;)Ljava/lang/StringBuilder; : labels [] -/
theorem k413 {d : Nat} {x0 : Nat} {x1 : Nat} {σ : cm_S} {Q : cm_O → Prop} (hd : 2 ≤ d) (h0 : cm_tg σ x0 = 20 ∧
wp_c (d - 1) 409 [.ref x0, .ref x1] σ (qv fun σ1 => cm_tg σ1 x0 = 20 ∧
Q (false, .ref (cm_R σ1 x0 0), σ1))) : wp_c d 413 [.ref x0, .ref x1] σ Q :=
  wc_in (by omega) rfl rfl (L := [.ref x0, .ref x1]) rfl (have hd : 1 ≤ d - 1 := (by omega); (wr_aload_n rfl rfl rfl (wr_aload_n rfl rfl rfl (wr_invwv rfl hd rfl (fun _ => rfl) rfl (cr_dt rfl h0.1) rfl (wm_v h0.2 fun σ1 h1 => (wr_aload_n rfl rfl rfl (wr_gfR rfl rfl (by decide) h1.1 (wr_areturn rfl h1.2))))))))
