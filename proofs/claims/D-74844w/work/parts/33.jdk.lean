/-! WHAT METHODS ASK (by gen/mkwp.py e java/util/AbstractCollection java/util/AbstractList java/util/ArrayList java/util/ArrayList$Itr java/util/ArrayDeque java/util/BitSet java/lang/Enum java/lang/String java/lang/StringLatin1 jdk/internal/util/Preconditions java/lang/AbstractStringBuilder java/lang/StringBuilder java/lang/Math java/util/Arrays java/lang/Number java/lang/Integer java/lang/Boolean java/util/Objects java/lang/Long jdk/internal/util/ArraysSupport) -/
set_option maxRecDepth 100000
/-- java/util/AbstractCollection.<init>()V : labels [] -/
theorem k455 {d : Nat} {x0 : Nat} {σ : cm_S} {Q : cm_O → Prop} (hd : 2 ≤ d) (h0 : cm_tg σ x0 ≠ 0 ∧
Q (false, .int 0, σ)) : wp_c d 455 [.ref x0] σ Q :=
  wc_in (by omega) rfl rfl (L := [.ref x0]) rfl (have hd : 1 ≤ d - 1 := (by omega); (wr_aload_n rfl rfl rfl (wr_objinit rfl hd rfl rfl h0.1 (wr_return rfl h0.2))))
/-- java/util/AbstractList.<init>()V : labels [] -/
theorem k456 {d : Nat} {x0 : Nat} {σ : cm_S} {Q : cm_O → Prop} (hd : 2 ≤ d) (h0 : (cm_tg σ x0 ≠ 0 ∧ cm_tg σ x0 < 60) ∧
wp_c (d - 1) 455 [.ref x0] σ (qv fun σ1 => cm_tg σ1 x0 = 25 ∧
cm_K cp ≤ x0 ∧
(∀ σ2, σ2 = cm_pI σ1 x0 0 (zi 0) → 
Q (false, .int 0, σ2)))) : wp_c d 456 [.ref x0] σ Q :=
  wc_in (by omega) rfl rfl (L := [.ref x0]) rfl (have hd : 1 ≤ d - 1 := (by omega); (wr_aload_n rfl rfl rfl (wr_invpv rfl hd rfl (fun _ => rfl) rfl h0.1 rfl (wm_v h0.2 fun σ1 h1 => (wr_aload_n rfl rfl rfl (wr_iconst rfl rfl (wr_pfI rfl rfl (by decide) ⟨by decide, by decide⟩ h1.1 h1.2.1 rfl (wr_return rfl (h1.2.2 _ rfl)))))))))
/-- java/util/ArrayList.add(Ljava/lang/Object;)Z : labels [] -/
theorem k457 {d : Nat} {x0 : Nat} {x1 : Nat} {σ : cm_S} {Q : cm_O → Prop} (hd : 2 ≤ d) (h0 : cm_tg σ x0 = 25 ∧
cm_K cp ≤ x0 ∧
(∀ σ1, σ1 = cm_pI σ x0 0 ((cm_I σ x0 0) + (zi 1)) → 
wp_c (d - 1) 459 [.ref x0, .ref x1, .ref (cm_R σ1 x0 1), .int (cm_I σ1 x0 2)] σ1 (qv fun σ2 => Q (false, .int (zi 1), σ2)))) : wp_c d 457 [.ref x0, .ref x1] σ Q :=
  wc_in (by omega) rfl rfl (L := [.ref x0, .ref x1]) rfl (have hd : 1 ≤ d - 1 := (by omega); (wr_aload_n rfl rfl rfl (wr_dup rfl rfl rfl (wr_gfI rfl rfl (by decide) ⟨by decide, by decide⟩ h0.1 (wr_iconst rfl rfl (wr_iadd rfl rfl (wr_pfI rfl rfl (by decide) ⟨by decide, by decide⟩ h0.1 h0.2.1 rfl (wr_aload_n rfl rfl rfl (wr_aload_n rfl rfl rfl (wr_aload_n rfl rfl rfl (wr_gfR rfl rfl (by decide) h0.1 (wr_aload_n rfl rfl rfl (wr_gfI rfl rfl (by decide) ⟨by decide, by decide⟩ h0.1 (wr_invwv rfl hd rfl (fun _ => rfl) rfl (cr_dt rfl h0.1) rfl (wm_v (h0.2.2 _ rfl) fun σ2 h1 => (wr_iconst rfl rfl (wr_ireturn rfl (by decide) h1)))))))))))))))))
/-- java/util/ArrayList.addAll(Ljava/util/Collection;)Z : labels [] -/
theorem k458 {d : Nat} {x0 : Nat} {x1 : Nat} {σ : cm_S} {Q : cm_O → Prop} (hd : 2 ≤ d) (h0 : ∃ mm, cp_disp 383 (cm_tg σ x1) = some mm ∧ cm_rk cp mm = 3 ∧
wp_c (d - 1) mm [.ref x1] σ (qr fun r1 σ1 => cm_tg σ1 x0 = 25 ∧
cm_K cp ≤ x0 ∧
(∀ σ2, σ2 = cm_pI σ1 x0 0 ((cm_I σ1 x0 0) + (zi 1)) → 
100 < cm_tg σ2 r1 ∧
((Int32.ofNat (cm_ln σ2 r1)) = (zi 0) → (Q (false, .int (zi 0), σ2))) ∧
(¬ (Int32.ofNat (cm_ln σ2 r1)) = (zi 0) → (100 < cm_tg σ2 (cm_R σ2 x0 1) ∧
(((Int32.ofNat (cm_ln σ2 (cm_R σ2 x0 1))) - (cm_I σ2 x0 2)) < (Int32.ofNat (cm_ln σ2 r1)) → (wp_c (d - 1) 465 [.ref x0, .int ((cm_I σ2 x0 2) + (Int32.ofNat (cm_ln σ2 r1)))] σ2 (qr fun r3 σ3 => cm_cw σ3 r1 r3 (zi 0) (cm_I σ2 x0 2) (Int32.ofNat (cm_ln σ2 r1)) (fun σ4 => cm_tg σ4 x0 = 25 ∧
(∀ σ5, σ5 = cm_pI σ4 x0 2 ((cm_I σ2 x0 2) + (Int32.ofNat (cm_ln σ2 r1))) → 
Q (false, .int (zi 1), σ5)))))) ∧
(¬ ((Int32.ofNat (cm_ln σ2 (cm_R σ2 x0 1))) - (cm_I σ2 x0 2)) < (Int32.ofNat (cm_ln σ2 r1)) → (cm_cw σ2 r1 (cm_R σ2 x0 1) (zi 0) (cm_I σ2 x0 2) (Int32.ofNat (cm_ln σ2 r1)) (fun σ6 => cm_tg σ6 x0 = 25 ∧
(∀ σ7, σ7 = cm_pI σ6 x0 2 ((cm_I σ2 x0 2) + (Int32.ofNat (cm_ln σ2 r1))) → 
Q (false, .int (zi 1), σ7)))))))))) : wp_c d 458 [.ref x0, .ref x1] σ Q :=
  wc_in (by omega) rfl rfl (L := [.ref x0, .ref x1, .null, .null, .null, .null]) rfl (have hd : 1 ≤ d - 1 := (by omega); (wr_aload_n rfl rfl rfl (wr_invfr rfl hd rfl (fun _ => rfl) rfl h0.choose_spec.1 h0.choose_spec.2.1 (wm_r h0.choose_spec.2.2 fun r1 σ1 h1 => (wr_astore_n rfl rfl rfl (L2 := [.ref x0, .ref x1, .ref r1, .null, .null, .null]) rfl (wr_aload_n rfl rfl rfl (wr_dup rfl rfl rfl (wr_gfI rfl rfl (by decide) ⟨by decide, by decide⟩ h1.1 (wr_iconst rfl rfl (wr_iadd rfl rfl (wr_pfI rfl rfl (by decide) ⟨by decide, by decide⟩ h1.1 h1.2.1 rfl (wr_aload_n rfl rfl rfl (wr_arraylength rfl rfl (h1.2.2 _ rfl).1 (wr_istore_n rfl rfl rfl (L2 := [.ref x0, .ref x1, .ref r1, .int (Int32.ofNat (cm_ln (cm_pI σ1 x0 0 ((cm_I σ1 x0 0) + (zi 1))) r1)), .null, .null]) rfl (wr_iload_n rfl rfl rfl (wr_if_ne rfl rfl (cr_ii (h1.2.2 _ rfl).2 (fun c2 h3 => (wr_iconst rfl rfl (wr_ireturn rfl (by decide) h3))) (fun c4 h5 => (wr_iload_n rfl rfl rfl (wr_aload_n rfl rfl rfl (wr_gfR rfl rfl (by decide) h1.1 (wr_dup rfl rfl rfl (wr_astore rfl rfl rfl (L2 := [.ref x0, .ref x1, .ref r1, .int (Int32.ofNat (cm_ln (cm_pI σ1 x0 0 ((cm_I σ1 x0 0) + (zi 1))) r1)), .ref (cm_R (cm_pI σ1 x0 0 ((cm_I σ1 x0 0) + (zi 1))) x0 1), .null]) rfl (wr_arraylength rfl rfl h5.1 (wr_aload_n rfl rfl rfl (wr_gfI rfl rfl (by decide) ⟨by decide, by decide⟩ h1.1 (wr_dup rfl rfl rfl (wr_istore rfl rfl rfl (L2 := [.ref x0, .ref x1, .ref r1, .int (Int32.ofNat (cm_ln (cm_pI σ1 x0 0 ((cm_I σ1 x0 0) + (zi 1))) r1)), .ref (cm_R (cm_pI σ1 x0 0 ((cm_I σ1 x0 0) + (zi 1))) x0 1), .int (cm_I (cm_pI σ1 x0 0 ((cm_I σ1 x0 0) + (zi 1))) x0 2)]) rfl (wr_isub rfl rfl (wr_icmp_le rfl rfl (cr_ii h5.2 (fun c6 h7 => (wr_aload_n rfl rfl rfl (wr_iload rfl rfl rfl (wr_iload_n rfl rfl rfl (wr_iadd rfl rfl (wr_invwr rfl hd rfl (fun _ => rfl) rfl (cr_dt rfl h1.1) rfl (wm_r h7 fun r3 σ3 h8 => (wr_astore rfl rfl rfl (L2 := [.ref x0, .ref x1, .ref r1, .int (Int32.ofNat (cm_ln (cm_pI σ1 x0 0 ((cm_I σ1 x0 0) + (zi 1))) r1)), .ref r3, .int (cm_I (cm_pI σ1 x0 0 ((cm_I σ1 x0 0) + (zi 1))) x0 2)]) rfl (wr_aload_n rfl rfl rfl (wr_iconst rfl rfl (wr_aload rfl rfl rfl (wr_iload rfl rfl rfl (wr_iload_n rfl rfl rfl (wr_arraycopy rfl hd rfl rfl (h8.mono (fun σ4 h9 => (wr_aload_n rfl rfl rfl (wr_iload rfl rfl rfl (wr_iload_n rfl rfl rfl (wr_iadd rfl rfl (wr_pfI rfl rfl (by decide) ⟨by decide, by decide⟩ h9.1 h1.2.1 rfl (wr_iconst rfl rfl (wr_ireturn rfl (by decide) (h9.2 _ rfl)))))))))))))))))))))))) (fun c10 h11 => (wr_aload_n rfl rfl rfl (wr_iconst rfl rfl (wr_aload rfl rfl rfl (wr_iload rfl rfl rfl (wr_iload_n rfl rfl rfl (wr_arraycopy rfl hd rfl rfl (h11.mono (fun σ6 h12 => (wr_aload_n rfl rfl rfl (wr_iload rfl rfl rfl (wr_iload_n rfl rfl rfl (wr_iadd rfl rfl (wr_pfI rfl rfl (by decide) ⟨by decide, by decide⟩ h12.1 h1.2.1 rfl (wr_iconst rfl rfl (wr_ireturn rfl (by decide) (h12.2 _ rfl))))))))))))))))))))))))))))))))))))))))))))))))
/-- java/util/ArrayList.add(Ljava/lang/Object;[Ljava/lang/Object;I)V : labels [] -/
theorem k459 {d : Nat} {x0 : Nat} {x1 : Nat} {x2 : Nat} {x3 : Int32} {σ : cm_S} {Q : cm_O → Prop} (hd : 2 ≤ d) (h0 : 100 < cm_tg σ x2 ∧
(x3 = (Int32.ofNat (cm_ln σ x2)) → (cm_tg σ x0 = 25 ∧
wp_c (d - 1) 464 [.ref x0] σ (qr fun r1 σ1 => 104 < cm_tg σ1 r1 ∧
cm_in x3 (cm_ln σ1 r1) = true ∧
cm_K cp ≤ r1 ∧
(x1 = 0 ∨ cp_asg (cm_tg σ1 r1) (cm_tg σ1 x1) = true) ∧
(∀ σ2, σ2 = cm_pR σ1 r1 (cm_ix x3) x1 → 
cm_tg σ2 x0 = 25 ∧
cm_K cp ≤ x0 ∧
(∀ σ3, σ3 = cm_pI σ2 x0 2 (x3 + (zi 1)) → 
Q (false, .int 0, σ3)))))) ∧
(¬ x3 = (Int32.ofNat (cm_ln σ x2)) → (104 < cm_tg σ x2 ∧
cm_in x3 (cm_ln σ x2) = true ∧
cm_K cp ≤ x2 ∧
(x1 = 0 ∨ cp_asg (cm_tg σ x2) (cm_tg σ x1) = true) ∧
(∀ σ4, σ4 = cm_pR σ x2 (cm_ix x3) x1 → 
cm_tg σ4 x0 = 25 ∧
cm_K cp ≤ x0 ∧
(∀ σ5, σ5 = cm_pI σ4 x0 2 (x3 + (zi 1)) → 
Q (false, .int 0, σ5)))))) : wp_c d 459 [.ref x0, .ref x1, .ref x2, .int x3] σ Q :=
  wc_in (by omega) rfl rfl (L := [.ref x0, .ref x1, .ref x2, .int x3]) rfl (have hd : 1 ≤ d - 1 := (by omega); (wr_iload_n rfl rfl rfl (wr_aload_n rfl rfl rfl (wr_arraylength rfl rfl h0.1 (wr_icmp_ne rfl rfl (cr_ii h0.2 (fun c1 h2 => (wr_aload_n rfl rfl rfl (wr_invwr rfl hd rfl (fun _ => rfl) rfl (cr_dt rfl h2.1) rfl (wm_r h2.2 fun r1 σ1 h3 => (wr_astore_n rfl rfl rfl (L2 := [.ref x0, .ref x1, .ref r1, .int x3]) rfl (wr_aload_n rfl rfl rfl (wr_iload_n rfl rfl rfl (wr_aload_n rfl rfl rfl (wr_aastore rfl rfl h3.1 h3.2.1 h3.2.2.1 h3.2.2.2.1 (wr_aload_n rfl rfl rfl (wr_iload_n rfl rfl rfl (wr_iconst rfl rfl (wr_iadd rfl rfl (wr_pfI rfl rfl (by decide) ⟨by decide, by decide⟩ (h3.2.2.2.2 _ rfl).1 (h3.2.2.2.2 _ rfl).2.1 rfl (wr_return rfl ((h3.2.2.2.2 _ rfl).2.2 _ rfl)))))))))))))))) (fun c4 h5 => (wr_aload_n rfl rfl rfl (wr_iload_n rfl rfl rfl (wr_aload_n rfl rfl rfl (wr_aastore rfl rfl h5.1 h5.2.1 h5.2.2.1 h5.2.2.2.1 (wr_aload_n rfl rfl rfl (wr_iload_n rfl rfl rfl (wr_iconst rfl rfl (wr_iadd rfl rfl (wr_pfI rfl rfl (by decide) ⟨by decide, by decide⟩ (h5.2.2.2.2 _ rfl).1 (h5.2.2.2.2 _ rfl).2.1 rfl (wr_return rfl ((h5.2.2.2.2 _ rfl).2.2 _ rfl))))))))))))))))))
/-- java/util/ArrayList.clear()V : labels [27] -/
theorem k460 {d : Nat} {x0 : Nat} {σ : cm_S} {Q : cm_O → Prop} (hd : 1 ≤ d) (h0 : cm_tg σ x0 = 25 ∧
cm_K cp ≤ x0 ∧
(∀ σ1, σ1 = cm_pI σ x0 0 ((cm_I σ x0 0) + (zi 1)) → 
∀ σ2, σ2 = cm_pI σ1 x0 2 (zi 0) → 
wp_r (d - 1) 460 (27, [.ref x0, .ref (cm_R σ1 x0 1), .int (cm_I σ1 x0 2), .int (zi 0)], [], σ2) Q)) : wp_c d 460 [.ref x0] σ Q :=
  wc_in (by omega) rfl rfl (L := [.ref x0, .null, .null, .null]) rfl ((wr_aload_n rfl rfl rfl (wr_dup rfl rfl rfl (wr_gfI rfl rfl (by decide) ⟨by decide, by decide⟩ h0.1 (wr_iconst rfl rfl (wr_iadd rfl rfl (wr_pfI rfl rfl (by decide) ⟨by decide, by decide⟩ h0.1 h0.2.1 rfl (wr_aload_n rfl rfl rfl (wr_gfR rfl rfl (by decide) h0.1 (wr_astore_n rfl rfl rfl (L2 := [.ref x0, .ref (cm_R (cm_pI σ x0 0 ((cm_I σ x0 0) + (zi 1))) x0 1), .null, .null]) rfl (wr_aload_n rfl rfl rfl (wr_gfI rfl rfl (by decide) ⟨by decide, by decide⟩ h0.1 (wr_istore_n rfl rfl rfl (L2 := [.ref x0, .ref (cm_R (cm_pI σ x0 0 ((cm_I σ x0 0) + (zi 1))) x0 1), .int (cm_I (cm_pI σ x0 0 ((cm_I σ x0 0) + (zi 1))) x0 2), .null]) rfl (wr_aload_n rfl rfl rfl (wr_iconst rfl rfl (wr_dup_x1 rfl rfl rfl rfl (wr_pfI rfl rfl (by decide) ⟨by decide, by decide⟩ h0.1 h0.2.1 rfl (wr_istore_n rfl rfl rfl (L2 := [.ref x0, .ref (cm_R (cm_pI σ x0 0 ((cm_I σ x0 0) + (zi 1))) x0 1), .int (cm_I (cm_pI σ x0 0 ((cm_I σ x0 0) + (zi 1))) x0 2), .int (zi 0)]) rfl ((h0.2.2 _ rfl) _ rfl)))))))))))))))))))
theorem k460_27 {d : Nat} {x0 : Nat} {x1 : Nat} {x2 : Int32} {x3 : Int32} {σ : cm_S} {Q : cm_O → Prop} (h0 : (x3 < x2 → (104 < cm_tg σ x1 ∧
cm_in x3 (cm_ln σ x1) = true ∧
cm_K cp ≤ x1 ∧
(0 = 0 ∨ cp_asg (cm_tg σ x1) (cm_tg σ 0) = true) ∧
(∀ σ1, σ1 = cm_pR σ x1 (cm_ix x3) 0 → 
wp_r d 460 (27, [.ref x0, .ref x1, .int x2, .int (x3 + zi 1)], [], σ1) Q))) ∧
(¬ x3 < x2 → (Q (false, .int 0, σ)))) : wp_r d 460 (27, [.ref x0, .ref x1, .int x2, .int x3], [], σ) Q :=
  (wr_iload_n rfl rfl rfl (wr_iload_n rfl rfl rfl (wr_icmp_ge rfl rfl (cr_ii h0 (fun c1 h2 => (wr_aload_n rfl rfl rfl (wr_iload_n rfl rfl rfl (wr_aconst_null rfl rfl (wr_aastore rfl rfl h2.1 h2.2.1 h2.2.2.1 h2.2.2.2.1 (wr_iinc rfl rfl rfl (L2 := [.ref x0, .ref x1, .int x2, .int (x3 + zi 1)]) rfl (wr_goto rfl (h2.2.2.2.2 _ rfl)))))))) (fun c3 h4 => (wr_return rfl h4))))))
/-- java/util/ArrayList.elementData(I)Ljava/lang/Object; : labels [] -/
theorem k461 {d : Nat} {x0 : Nat} {x1 : Int32} {σ : cm_S} {Q : cm_O → Prop} (hd : 1 ≤ d) (h0 : cm_tg σ x0 = 25 ∧
104 < cm_tg σ (cm_R σ x0 1) ∧
cm_in x1 (cm_ln σ (cm_R σ x0 1)) = true ∧
Q (false, .ref (cm_R σ (cm_R σ x0 1) (cm_ix x1)), σ)) : wp_c d 461 [.ref x0, .int x1] σ Q :=
  wc_in (by omega) rfl rfl (L := [.ref x0, .int x1]) rfl ((wr_aload_n rfl rfl rfl (wr_gfR rfl rfl (by decide) h0.1 (wr_iload_n rfl rfl rfl (wr_aaload rfl rfl h0.2.1 h0.2.2.1 (wr_areturn rfl h0.2.2.2))))))
/-- java/util/ArrayList.fastRemove([Ljava/lang/Object;I)V : labels [] -/
theorem k462 {d : Nat} {x0 : Nat} {x1 : Nat} {x2 : Int32} {σ : cm_S} {Q : cm_O → Prop} (hd : 2 ≤ d) (h0 : cm_tg σ x0 = 25 ∧
cm_K cp ≤ x0 ∧
(∀ σ1, σ1 = cm_pI σ x0 0 ((cm_I σ x0 0) + (zi 1)) → 
(x2 < ((cm_I σ1 x0 2) - (zi 1)) → (cm_cw σ1 x1 x1 (x2 + (zi 1)) x2 (((cm_I σ1 x0 2) - (zi 1)) - x2) (fun σ2 => cm_tg σ2 x0 = 25 ∧
(∀ σ3, σ3 = cm_pI σ2 x0 2 ((cm_I σ1 x0 2) - (zi 1)) → 
104 < cm_tg σ3 x1 ∧
cm_in ((cm_I σ1 x0 2) - (zi 1)) (cm_ln σ3 x1) = true ∧
cm_K cp ≤ x1 ∧
(0 = 0 ∨ cp_asg (cm_tg σ3 x1) (cm_tg σ3 0) = true) ∧
(∀ σ4, σ4 = cm_pR σ3 x1 (cm_ix ((cm_I σ1 x0 2) - (zi 1))) 0 → 
Q (false, .int 0, σ4)))))) ∧
(¬ x2 < ((cm_I σ1 x0 2) - (zi 1)) → (∀ σ5, σ5 = cm_pI σ1 x0 2 ((cm_I σ1 x0 2) - (zi 1)) → 
104 < cm_tg σ5 x1 ∧
cm_in ((cm_I σ1 x0 2) - (zi 1)) (cm_ln σ5 x1) = true ∧
cm_K cp ≤ x1 ∧
(0 = 0 ∨ cp_asg (cm_tg σ5 x1) (cm_tg σ5 0) = true) ∧
(∀ σ6, σ6 = cm_pR σ5 x1 (cm_ix ((cm_I σ1 x0 2) - (zi 1))) 0 → 
Q (false, .int 0, σ6)))))) : wp_c d 462 [.ref x0, .ref x1, .int x2] σ Q :=
  wc_in (by omega) rfl rfl (L := [.ref x0, .ref x1, .int x2, .null]) rfl (have hd : 1 ≤ d - 1 := (by omega); (wr_aload_n rfl rfl rfl (wr_dup rfl rfl rfl (wr_gfI rfl rfl (by decide) ⟨by decide, by decide⟩ h0.1 (wr_iconst rfl rfl (wr_iadd rfl rfl (wr_pfI rfl rfl (by decide) ⟨by decide, by decide⟩ h0.1 h0.2.1 rfl (wr_aload_n rfl rfl rfl (wr_gfI rfl rfl (by decide) ⟨by decide, by decide⟩ h0.1 (wr_iconst rfl rfl (wr_isub rfl rfl (wr_dup rfl rfl rfl (wr_istore_n rfl rfl rfl (L2 := [.ref x0, .ref x1, .int x2, .int ((cm_I (cm_pI σ x0 0 ((cm_I σ x0 0) + (zi 1))) x0 2) - (zi 1))]) rfl (wr_iload_n rfl rfl rfl (wr_icmp_le rfl rfl (cr_ii (h0.2.2 _ rfl) (fun c1 h2 => (wr_aload_n rfl rfl rfl (wr_iload_n rfl rfl rfl (wr_iconst rfl rfl (wr_iadd rfl rfl (wr_aload_n rfl rfl rfl (wr_iload_n rfl rfl rfl (wr_iload_n rfl rfl rfl (wr_iload_n rfl rfl rfl (wr_isub rfl rfl (wr_arraycopy rfl hd rfl rfl (h2.mono (fun σ2 h3 => (wr_aload_n rfl rfl rfl (wr_aload_n rfl rfl rfl (wr_iload_n rfl rfl rfl (wr_dup_x1 rfl rfl rfl rfl (wr_pfI rfl rfl (by decide) ⟨by decide, by decide⟩ h3.1 h0.2.1 rfl (wr_aconst_null rfl rfl (wr_aastore rfl rfl (h3.2 _ rfl).1 (h3.2 _ rfl).2.1 (h3.2 _ rfl).2.2.1 (h3.2 _ rfl).2.2.2.1 (wr_return rfl ((h3.2 _ rfl).2.2.2.2 _ rfl)))))))))))))))))))))) (fun c4 h5 => (wr_aload_n rfl rfl rfl (wr_aload_n rfl rfl rfl (wr_iload_n rfl rfl rfl (wr_dup_x1 rfl rfl rfl rfl (wr_pfI rfl rfl (by decide) ⟨by decide, by decide⟩ h0.1 h0.2.1 rfl (wr_aconst_null rfl rfl (wr_aastore rfl rfl (h5 _ rfl).1 (h5 _ rfl).2.1 (h5 _ rfl).2.2.1 (h5 _ rfl).2.2.2.1 (wr_return rfl ((h5 _ rfl).2.2.2.2 _ rfl))))))))))))))))))))))))))
/-- java/util/ArrayList.get(I)Ljava/lang/Object; : labels [] -/
theorem k463 {d : Nat} {x0 : Nat} {x1 : Int32} {σ : cm_S} {Q : cm_O → Prop} (hd : 2 ≤ d) (h0 : cm_tg σ x0 = 25 ∧
wp_c (d - 1) 605 [.int x1, .int (cm_I σ x0 2)] σ (qi fun r1 σ1 => cm_tg σ1 x0 = 25 ∧
wp_c (d - 1) 461 [.ref x0, .int x1] σ1 (qr fun r2 σ2 => Q (false, .ref r2, σ2)))) : wp_c d 463 [.ref x0, .int x1] σ Q :=
  wc_in (by omega) rfl rfl (L := [.ref x0, .int x1]) rfl (have hd : 1 ≤ d - 1 := (by omega); (wr_iload_n rfl rfl rfl (wr_aload_n rfl rfl rfl (wr_gfI rfl rfl (by decide) ⟨by decide, by decide⟩ h0.1 (wr_invsi rfl hd rfl (fun _ => rfl) rfl rfl (wm_i h0.2 fun r1 σ1 h1 => (wr_pop rfl rfl rfl (wr_aload_n rfl rfl rfl (wr_iload_n rfl rfl rfl (wr_invwr rfl hd rfl (fun _ => rfl) rfl (cr_dt rfl h1.1) rfl (wm_r h1.2 fun r2 σ2 h2 => (wr_areturn rfl h2))))))))))))
/-- java/util/ArrayList.grow()[Ljava/lang/Object; : labels [] -/
theorem k464 {d : Nat} {x0 : Nat} {σ : cm_S} {Q : cm_O → Prop} (hd : 2 ≤ d) (h0 : cm_tg σ x0 = 25 ∧
wp_c (d - 1) 465 [.ref x0, .int ((cm_I σ x0 2) + (zi 1))] σ (qr fun r1 σ1 => Q (false, .ref r1, σ1))) : wp_c d 464 [.ref x0] σ Q :=
  wc_in (by omega) rfl rfl (L := [.ref x0]) rfl (have hd : 1 ≤ d - 1 := (by omega); (wr_aload_n rfl rfl rfl (wr_aload_n rfl rfl rfl (wr_gfI rfl rfl (by decide) ⟨by decide, by decide⟩ h0.1 (wr_iconst rfl rfl (wr_iadd rfl rfl (wr_invwr rfl hd rfl (fun _ => rfl) rfl (cr_dt rfl h0.1) rfl (wm_r h0.2 fun r1 σ1 h1 => (wr_areturn rfl h1)))))))))
/-- java/util/ArrayList.grow(I)[Ljava/lang/Object; : labels [] -/
theorem k465 {d : Nat} {x0 : Nat} {x1 : Int32} {σ : cm_S} {Q : cm_O → Prop} (hd : 2 ≤ d) (h0 : cm_tg σ x0 = 25 ∧
100 < cm_tg σ (cm_R σ x0 1) ∧
((zi 0) < (Int32.ofNat (cm_ln σ (cm_R σ x0 1))) → (wp_c (d - 1) 575 [.int (Int32.ofNat (cm_ln σ (cm_R σ x0 1))), .int (x1 - (Int32.ofNat (cm_ln σ (cm_R σ x0 1)))), .int ((Int32.ofNat (cm_ln σ (cm_R σ x0 1))) >>> ((zi 1) &&& 31))] σ (qi fun r1 σ1 => cm_tg σ1 x0 = 25 ∧
wp_c (d - 1) 589 [.ref (cm_R σ1 x0 1), .int r1] σ1 (qr fun r2 σ2 => cm_tg σ2 x0 = 25 ∧
cm_K cp ≤ x0 ∧
(∀ σ3, σ3 = cm_pR σ2 x0 1 r2 → 
Q (false, .ref r2, σ3)))))) ∧
(¬ (zi 0) < (Int32.ofNat (cm_ln σ (cm_R σ x0 1))) → (cm_ac (cm_R σ x0 1) 33 ∧
((cm_R σ x0 1) = 33 → (wp_c (d - 1) 579 [.int (zi 10), .int x1] σ (qi fun r4 σ4 => (0 ≤ r4.toInt ∧ r4.toInt ≤ 60000000) ∧
(∀ σ5, σ5 = cm_al σ4 105 (cm_ix r4) → 
cm_tg σ5 x0 = 25 ∧
cm_K cp ≤ x0 ∧
(∀ σ6, σ6 = cm_pR σ5 x0 1 (cm_nx σ4) → 
Q (false, .ref (cm_nx σ4), σ6)))))) ∧
(¬ (cm_R σ x0 1) = 33 → (wp_c (d - 1) 575 [.int (Int32.ofNat (cm_ln σ (cm_R σ x0 1))), .int (x1 - (Int32.ofNat (cm_ln σ (cm_R σ x0 1)))), .int ((Int32.ofNat (cm_ln σ (cm_R σ x0 1))) >>> ((zi 1) &&& 31))] σ (qi fun r7 σ7 => cm_tg σ7 x0 = 25 ∧
wp_c (d - 1) 589 [.ref (cm_R σ7 x0 1), .int r7] σ7 (qr fun r8 σ8 => cm_tg σ8 x0 = 25 ∧
cm_K cp ≤ x0 ∧
(∀ σ9, σ9 = cm_pR σ8 x0 1 r8 → 
Q (false, .ref r8, σ9))))))))) : wp_c d 465 [.ref x0, .int x1] σ Q :=
  wc_in (by omega) rfl rfl (L := [.ref x0, .int x1, .null, .null]) rfl (have hd : 1 ≤ d - 1 := (by omega); (wr_aload_n rfl rfl rfl (wr_gfR rfl rfl (by decide) h0.1 (wr_arraylength rfl rfl h0.2.1 (wr_istore_n rfl rfl rfl (L2 := [.ref x0, .int x1, .int (Int32.ofNat (cm_ln σ (cm_R σ x0 1))), .null]) rfl (wr_iload_n rfl rfl rfl (wr_if_gt rfl rfl (cr_ii h0.2.2 (fun c1 h2 => (wr_iload_n rfl rfl rfl (wr_iload_n rfl rfl rfl (wr_iload_n rfl rfl rfl (wr_isub rfl rfl (wr_iload_n rfl rfl rfl (wr_iconst rfl rfl (wr_ishr rfl rfl (wr_invsi rfl hd rfl (fun _ => rfl) rfl rfl (wm_i h2 fun r1 σ1 h3 => (wr_istore_n rfl rfl rfl (L2 := [.ref x0, .int x1, .int (Int32.ofNat (cm_ln σ (cm_R σ x0 1))), .int r1]) rfl (wr_aload_n rfl rfl rfl (wr_aload_n rfl rfl rfl (wr_gfR rfl rfl (by decide) h3.1 (wr_iload_n rfl rfl rfl (wr_invsr rfl hd rfl (fun _ => rfl) rfl rfl (wm_r h3.2 fun r2 σ2 h4 => (wr_dup_x1 rfl rfl rfl rfl (wr_pfR rfl rfl (by decide) h4.1 h4.2.1 (wr_areturn rfl (h4.2.2 _ rfl))))))))))))))))))))) (fun c5 h6 => (wr_aload_n rfl rfl rfl (wr_gfR rfl rfl (by decide) h0.1 (wr_getstatic rfl (w := .ref 33) rfl rfl (wr_acmp_eq rfl rfl h6.1 (cr_ii h6.2 (fun c7 h8 => (wr_aload_n rfl rfl rfl (wr_bipush (a := zi 10) rfl rfl rfl (wr_iload_n rfl rfl rfl (wr_invsi rfl hd rfl (fun _ => rfl) rfl rfl (wm_i h8 fun r4 σ4 h9 => (wr_anewarray rfl rfl h9.1 (wr_dup_x1 rfl rfl rfl rfl (wr_pfR rfl rfl (by decide) (h9.2 _ rfl).1 (h9.2 _ rfl).2.1 (wr_areturn rfl ((h9.2 _ rfl).2.2 _ rfl))))))))))) (fun c10 h11 => (wr_iload_n rfl rfl rfl (wr_iload_n rfl rfl rfl (wr_iload_n rfl rfl rfl (wr_isub rfl rfl (wr_iload_n rfl rfl rfl (wr_iconst rfl rfl (wr_ishr rfl rfl (wr_invsi rfl hd rfl (fun _ => rfl) rfl rfl (wm_i h11 fun r7 σ7 h12 => (wr_istore_n rfl rfl rfl (L2 := [.ref x0, .int x1, .int (Int32.ofNat (cm_ln σ (cm_R σ x0 1))), .int r7]) rfl (wr_aload_n rfl rfl rfl (wr_aload_n rfl rfl rfl (wr_gfR rfl rfl (by decide) h12.1 (wr_iload_n rfl rfl rfl (wr_invsr rfl hd rfl (fun _ => rfl) rfl rfl (wm_r h12.2 fun r8 σ8 h13 => (wr_dup_x1 rfl rfl rfl rfl (wr_pfR rfl rfl (by decide) h13.1 h13.2.1 (wr_areturn rfl (h13.2.2 _ rfl)))))))))))))))))))))))))))))))))))
/-- java/util/ArrayList.<init>(I)V : labels [] -/
theorem k466 {d : Nat} {x0 : Nat} {x1 : Int32} {σ : cm_S} {Q : cm_O → Prop} (hd : 2 ≤ d) (h0 : (cm_tg σ x0 ≠ 0 ∧ cm_tg σ x0 < 60) ∧
wp_c (d - 1) 456 [.ref x0] σ (qv fun σ1 => ((zi 0) < x1 → ((0 ≤ x1.toInt ∧ x1.toInt ≤ 60000000) ∧
(∀ σ2, σ2 = cm_al σ1 105 (cm_ix x1) → 
cm_tg σ2 x0 = 25 ∧
cm_K cp ≤ x0 ∧
(∀ σ3, σ3 = cm_pR σ2 x0 1 (cm_nx σ1) → 
Q (false, .int 0, σ3))))) ∧
(¬ (zi 0) < x1 → ((x1 = (zi 0) → (cm_tg σ1 x0 = 25 ∧
cm_K cp ≤ x0 ∧
(∀ σ4, σ4 = cm_pR σ1 x0 1 32 → 
Q (false, .int 0, σ4)))) ∧
(¬ x1 = (zi 0) → (False)))))) : wp_c d 466 [.ref x0, .int x1] σ Q :=
  wc_in (by omega) rfl rfl (L := [.ref x0, .int x1]) rfl (have hd : 1 ≤ d - 1 := (by omega); (wr_aload_n rfl rfl rfl (wr_invpv rfl hd rfl (fun _ => rfl) rfl h0.1 rfl (wm_v h0.2 fun σ1 h1 => (wr_iload_n rfl rfl rfl (wr_if_le rfl rfl (cr_ii h1 (fun c2 h3 => (wr_aload_n rfl rfl rfl (wr_iload_n rfl rfl rfl (wr_anewarray rfl rfl h3.1 (wr_pfR rfl rfl (by decide) (h3.2 _ rfl).1 (h3.2 _ rfl).2.1 (wr_goto rfl (wr_return rfl ((h3.2 _ rfl).2.2 _ rfl)))))))) (fun c4 h5 => (wr_iload_n rfl rfl rfl (wr_if_ne rfl rfl (cr_ii h5 (fun c6 h7 => (wr_aload_n rfl rfl rfl (wr_getstatic rfl (w := .ref 32) rfl rfl (wr_pfR rfl rfl (by decide) h7.1 h7.2.1 (wr_goto rfl (wr_return rfl (h7.2.2 _ rfl))))))) (fun c8 h9 => (False.elim h9)))))))))))))
/-- java/util/ArrayList.iterator()Ljava/util/Iterator; : labels [] -/
theorem k467 {d : Nat} {x0 : Nat} {σ : cm_S} {Q : cm_O → Prop} (hd : 2 ≤ d) (h0 : ∀ σ1, σ1 = cm_al σ 31 4 → 
wp_c (d - 1) 603 [.ref (cm_nx σ), .ref x0] σ1 (qv fun σ2 => Q (false, .ref (cm_nx σ), σ2))) : wp_c d 467 [.ref x0] σ Q :=
  wc_in (by omega) rfl rfl (L := [.ref x0]) rfl (have hd : 1 ≤ d - 1 := (by omega); (wr_new rfl rfl (wr_dup rfl rfl rfl (wr_aload_n rfl rfl rfl (wr_invpv rfl hd rfl (fun _ => rfl) rfl (cr_60 (tg_new _ _ _) rfl) rfl (wm_v (h0 _ rfl) fun σ2 h1 => (wr_areturn rfl h1)))))))
/-- java/util/ArrayList.remove(I)Ljava/lang/Object; : labels [] -/
theorem k468 {d : Nat} {x0 : Nat} {x1 : Int32} {σ : cm_S} {Q : cm_O → Prop} (hd : 2 ≤ d) (h0 : cm_tg σ x0 = 25 ∧
wp_c (d - 1) 605 [.int x1, .int (cm_I σ x0 2)] σ (qi fun r1 σ1 => cm_tg σ1 x0 = 25 ∧
104 < cm_tg σ1 (cm_R σ1 x0 1) ∧
cm_in x1 (cm_ln σ1 (cm_R σ1 x0 1)) = true ∧
wp_c (d - 1) 462 [.ref x0, .ref (cm_R σ1 x0 1), .int x1] σ1 (qv fun σ2 => Q (false, .ref (cm_R σ1 (cm_R σ1 x0 1) (cm_ix x1)), σ2)))) : wp_c d 468 [.ref x0, .int x1] σ Q :=
  wc_in (by omega) rfl rfl (L := [.ref x0, .int x1, .null, .null]) rfl (have hd : 1 ≤ d - 1 := (by omega); (wr_iload_n rfl rfl rfl (wr_aload_n rfl rfl rfl (wr_gfI rfl rfl (by decide) ⟨by decide, by decide⟩ h0.1 (wr_invsi rfl hd rfl (fun _ => rfl) rfl rfl (wm_i h0.2 fun r1 σ1 h1 => (wr_pop rfl rfl rfl (wr_aload_n rfl rfl rfl (wr_gfR rfl rfl (by decide) h1.1 (wr_astore_n rfl rfl rfl (L2 := [.ref x0, .int x1, .ref (cm_R σ1 x0 1), .null]) rfl (wr_aload_n rfl rfl rfl (wr_iload_n rfl rfl rfl (wr_aaload rfl rfl h1.2.1 h1.2.2.1 (wr_astore_n rfl rfl rfl (L2 := [.ref x0, .int x1, .ref (cm_R σ1 x0 1), .ref (cm_R σ1 (cm_R σ1 x0 1) (cm_ix x1))]) rfl (wr_aload_n rfl rfl rfl (wr_aload_n rfl rfl rfl (wr_iload_n rfl rfl rfl (wr_invwv rfl hd rfl (fun _ => rfl) rfl (cr_dt rfl h1.1) rfl (wm_v h1.2.2.2 fun σ2 h2 => (wr_aload_n rfl rfl rfl (wr_areturn rfl h2)))))))))))))))))))))
/-- java/util/ArrayList.set(ILjava/lang/Object;)Ljava/lang/Object; : labels [] -/
theorem k469 {d : Nat} {x0 : Nat} {x1 : Int32} {x2 : Nat} {σ : cm_S} {Q : cm_O → Prop} (hd : 2 ≤ d) (h0 : cm_tg σ x0 = 25 ∧
wp_c (d - 1) 605 [.int x1, .int (cm_I σ x0 2)] σ (qi fun r1 σ1 => cm_tg σ1 x0 = 25 ∧
wp_c (d - 1) 461 [.ref x0, .int x1] σ1 (qr fun r2 σ2 => cm_tg σ2 x0 = 25 ∧
104 < cm_tg σ2 (cm_R σ2 x0 1) ∧
cm_in x1 (cm_ln σ2 (cm_R σ2 x0 1)) = true ∧
cm_K cp ≤ (cm_R σ2 x0 1) ∧
(x2 = 0 ∨ cp_asg (cm_tg σ2 (cm_R σ2 x0 1)) (cm_tg σ2 x2) = true) ∧
(∀ σ3, σ3 = cm_pR σ2 (cm_R σ2 x0 1) (cm_ix x1) x2 → 
Q (false, .ref r2, σ3))))) : wp_c d 469 [.ref x0, .int x1, .ref x2] σ Q :=
  wc_in (by omega) rfl rfl (L := [.ref x0, .int x1, .ref x2, .null]) rfl (have hd : 1 ≤ d - 1 := (by omega); (wr_iload_n rfl rfl rfl (wr_aload_n rfl rfl rfl (wr_gfI rfl rfl (by decide) ⟨by decide, by decide⟩ h0.1 (wr_invsi rfl hd rfl (fun _ => rfl) rfl rfl (wm_i h0.2 fun r1 σ1 h1 => (wr_pop rfl rfl rfl (wr_aload_n rfl rfl rfl (wr_iload_n rfl rfl rfl (wr_invwr rfl hd rfl (fun _ => rfl) rfl (cr_dt rfl h1.1) rfl (wm_r h1.2 fun r2 σ2 h2 => (wr_astore_n rfl rfl rfl (L2 := [.ref x0, .int x1, .ref x2, .ref r2]) rfl (wr_aload_n rfl rfl rfl (wr_gfR rfl rfl (by decide) h2.1 (wr_iload_n rfl rfl rfl (wr_aload_n rfl rfl rfl (wr_aastore rfl rfl h2.2.1 h2.2.2.1 h2.2.2.2.1 h2.2.2.2.2.1 (wr_aload_n rfl rfl rfl (wr_areturn rfl (h2.2.2.2.2.2 _ rfl))))))))))))))))))))
/-- java/util/ArrayList.size()I : labels [] -/
theorem k470 {d : Nat} {x0 : Nat} {σ : cm_S} {Q : cm_O → Prop} (hd : 1 ≤ d) (h0 : cm_tg σ x0 = 25 ∧
Q (false, .int (cm_I σ x0 2), σ)) : wp_c d 470 [.ref x0] σ Q :=
  wc_in (by omega) rfl rfl (L := [.ref x0]) rfl ((wr_aload_n rfl rfl rfl (wr_gfI rfl rfl (by decide) ⟨by decide, by decide⟩ h0.1 (wr_ireturn rfl rfl h0.2))))
/-- java/util/ArrayList.toArray()[Ljava/lang/Object; : labels [] -/
theorem k471 {d : Nat} {x0 : Nat} {σ : cm_S} {Q : cm_O → Prop} (hd : 2 ≤ d) (h0 : cm_tg σ x0 = 25 ∧
wp_c (d - 1) 589 [.ref (cm_R σ x0 1), .int (cm_I σ x0 2)] σ (qr fun r1 σ1 => Q (false, .ref r1, σ1))) : wp_c d 471 [.ref x0] σ Q :=
  wc_in (by omega) rfl rfl (L := [.ref x0]) rfl (have hd : 1 ≤ d - 1 := (by omega); (wr_aload_n rfl rfl rfl (wr_gfR rfl rfl (by decide) h0.1 (wr_aload_n rfl rfl rfl (wr_gfI rfl rfl (by decide) ⟨by decide, by decide⟩ h0.1 (wr_invsr rfl hd rfl (fun _ => rfl) rfl rfl (wm_r h0.2 fun r1 σ1 h1 => (wr_areturn rfl h1))))))))
/-- java/util/ArrayList$Itr.checkForComodification()V : labels [] -/
theorem k601 {d : Nat} {x0 : Nat} {σ : cm_S} {Q : cm_O → Prop} (hd : 1 ≤ d) (h0 : cm_tg σ x0 = 31 ∧
cm_tg σ (cm_R σ x0 3) = 25 ∧
((cm_I σ (cm_R σ x0 3) 0) = (cm_I σ x0 2) → (Q (false, .int 0, σ))) ∧
(¬ (cm_I σ (cm_R σ x0 3) 0) = (cm_I σ x0 2) → (False))) : wp_c d 601 [.ref x0] σ Q :=
  wc_in (by omega) rfl rfl (L := [.ref x0]) rfl ((wr_aload_n rfl rfl rfl (wr_gfR rfl rfl (by decide) h0.1 (wr_gfI rfl rfl (by decide) ⟨by decide, by decide⟩ h0.2.1 (wr_aload_n rfl rfl rfl (wr_gfI rfl rfl (by decide) ⟨by decide, by decide⟩ h0.1 (wr_icmp_eq rfl rfl (cr_ii h0.2.2 (fun c1 h2 => (wr_return rfl h2)) (fun c3 h4 => (False.elim h4))))))))))
/-- java/util/ArrayList$Itr.hasNext()Z : labels [] -/
theorem k602 {d : Nat} {x0 : Nat} {σ : cm_S} {Q : cm_O → Prop} (hd : 1 ≤ d) (h0 : cm_tg σ x0 = 31 ∧
cm_tg σ (cm_R σ x0 3) = 25 ∧
((cm_I σ x0 0) = (cm_I σ (cm_R σ x0 3) 2) → (Q (false, .int (zi 0), σ))) ∧
(¬ (cm_I σ x0 0) = (cm_I σ (cm_R σ x0 3) 2) → (Q (false, .int (zi 1), σ)))) : wp_c d 602 [.ref x0] σ Q :=
  wc_in (by omega) rfl rfl (L := [.ref x0]) rfl ((wr_aload_n rfl rfl rfl (wr_gfI rfl rfl (by decide) ⟨by decide, by decide⟩ h0.1 (wr_aload_n rfl rfl rfl (wr_gfR rfl rfl (by decide) h0.1 (wr_gfI rfl rfl (by decide) ⟨by decide, by decide⟩ h0.2.1 (wr_icmp_eq rfl rfl (cr_ii h0.2.2 (fun c1 h2 => (wr_iconst rfl rfl (wr_ireturn rfl (by decide) h2))) (fun c3 h4 => (wr_iconst rfl rfl (wr_goto rfl (wr_ireturn rfl (by decide) h4))))))))))))
/-- java/util/ArrayList$Itr.<init>(Ljava/util/ArrayList;)V : labels [] -/
theorem k603 {d : Nat} {x0 : Nat} {x1 : Nat} {σ : cm_S} {Q : cm_O → Prop} (hd : 2 ≤ d) (h0 : cm_tg σ x0 = 31 ∧
cm_K cp ≤ x0 ∧
(∀ σ1, σ1 = cm_pR σ x0 3 x1 → 
∀ σ2, σ2 = cm_pI σ1 x0 1 (zi (-1)) → 
cm_tg σ2 (cm_R σ2 x0 3) = 25 ∧
∀ σ3, σ3 = cm_pI σ2 x0 2 (cm_I σ2 (cm_R σ2 x0 3) 0) → 
Q (false, .int 0, σ3))) : wp_c d 603 [.ref x0, .ref x1] σ Q :=
  wc_in (by omega) rfl rfl (L := [.ref x0, .ref x1]) rfl (have hd : 1 ≤ d - 1 := (by omega); (wr_aload_n rfl rfl rfl (wr_aload_n rfl rfl rfl (wr_pfR rfl rfl (by decide) h0.1 h0.2.1 (wr_aload_n rfl rfl rfl (wr_objinit rfl hd rfl rfl (cr_ne0 h0.1 rfl) (wr_aload_n rfl rfl rfl (wr_iconst (k := -1) rfl rfl (wr_pfI rfl rfl (by decide) ⟨by decide, by decide⟩ h0.1 h0.2.1 rfl (wr_aload_n rfl rfl rfl (wr_aload_n rfl rfl rfl (wr_gfR rfl rfl (by decide) h0.1 (wr_gfI rfl rfl (by decide) ⟨by decide, by decide⟩ ((h0.2.2 _ rfl) _ rfl).1 (wr_pfI rfl rfl (by decide) ⟨by decide, by decide⟩ h0.1 h0.2.1 rfl (wr_return rfl (((h0.2.2 _ rfl) _ rfl).2 _ rfl))))))))))))))))
/-- java/util/ArrayList$Itr.next()Ljava/lang/Object; : labels [] -/
theorem k604 {d : Nat} {x0 : Nat} {σ : cm_S} {Q : cm_O → Prop} (hd : 2 ≤ d) (h0 : cm_tg σ x0 = 31 ∧
wp_c (d - 1) 601 [.ref x0] σ (qv fun σ1 => cm_tg σ1 x0 = 31 ∧
cm_tg σ1 (cm_R σ1 x0 3) = 25 ∧
((cm_I σ1 x0 0) < (cm_I σ1 (cm_R σ1 x0 3) 2) → (100 < cm_tg σ1 (cm_R σ1 (cm_R σ1 x0 3) 1) ∧
((cm_I σ1 x0 0) < (Int32.ofNat (cm_ln σ1 (cm_R σ1 (cm_R σ1 x0 3) 1))) → (cm_K cp ≤ x0 ∧
(∀ σ2, σ2 = cm_pI σ1 x0 0 ((cm_I σ1 x0 0) + (zi 1)) → 
∀ σ3, σ3 = cm_pI σ2 x0 1 (cm_I σ1 x0 0) → 
104 < cm_tg σ3 (cm_R σ1 (cm_R σ1 x0 3) 1) ∧
cm_in (cm_I σ1 x0 0) (cm_ln σ3 (cm_R σ1 (cm_R σ1 x0 3) 1)) = true ∧
Q (false, .ref (cm_R σ3 (cm_R σ1 (cm_R σ1 x0 3) 1) (cm_ix (cm_I σ1 x0 0))), σ3)))) ∧
(¬ (cm_I σ1 x0 0) < (Int32.ofNat (cm_ln σ1 (cm_R σ1 (cm_R σ1 x0 3) 1))) → (False)))) ∧
(¬ (cm_I σ1 x0 0) < (cm_I σ1 (cm_R σ1 x0 3) 2) → (False)))) : wp_c d 604 [.ref x0] σ Q :=
  wc_in (by omega) rfl rfl (L := [.ref x0, .null, .null]) rfl (have hd : 1 ≤ d - 1 := (by omega); (wr_aload_n rfl rfl rfl (wr_invwv rfl hd rfl (fun _ => rfl) rfl (cr_dt rfl h0.1) rfl (wm_v h0.2 fun σ1 h1 => (wr_aload_n rfl rfl rfl (wr_gfI rfl rfl (by decide) ⟨by decide, by decide⟩ h1.1 (wr_istore_n rfl rfl rfl (L2 := [.ref x0, .int (cm_I σ1 x0 0), .null]) rfl (wr_iload_n rfl rfl rfl (wr_aload_n rfl rfl rfl (wr_gfR rfl rfl (by decide) h1.1 (wr_gfI rfl rfl (by decide) ⟨by decide, by decide⟩ h1.2.1 (wr_icmp_lt rfl rfl (cr_ii h1.2.2 (fun c2 h3 => (wr_aload_n rfl rfl rfl (wr_gfR rfl rfl (by decide) h1.1 (wr_gfR rfl rfl (by decide) h1.2.1 (wr_astore_n rfl rfl rfl (L2 := [.ref x0, .int (cm_I σ1 x0 0), .ref (cm_R σ1 (cm_R σ1 x0 3) 1)]) rfl (wr_iload_n rfl rfl rfl (wr_aload_n rfl rfl rfl (wr_arraylength rfl rfl h3.1 (wr_icmp_lt rfl rfl (cr_ii h3.2 (fun c4 h5 => (wr_aload_n rfl rfl rfl (wr_iload_n rfl rfl rfl (wr_iconst rfl rfl (wr_iadd rfl rfl (wr_pfI rfl rfl (by decide) ⟨by decide, by decide⟩ h1.1 h5.1 rfl (wr_aload_n rfl rfl rfl (wr_aload_n rfl rfl rfl (wr_iload_n rfl rfl rfl (wr_dup_x1 rfl rfl rfl rfl (wr_pfI rfl rfl (by decide) ⟨by decide, by decide⟩ h1.1 h5.1 rfl (wr_aaload rfl rfl ((h5.2 _ rfl) _ rfl).1 ((h5.2 _ rfl) _ rfl).2.1 (wr_areturn rfl ((h5.2 _ rfl) _ rfl).2.2))))))))))))) (fun c6 h7 => (False.elim h7)))))))))))) (fun c8 h9 => (False.elim h9)))))))))))))))
/-- java/util/ArrayDeque.addFirst(Ljava/lang/Object;)V : labels [] -/
theorem k472 {d : Nat} {x0 : Nat} {x1 : Nat} {σ : cm_S} {Q : cm_O → Prop} (hd : 2 ≤ d) (h0 : (x1 = 0 → (False)) ∧
(¬ x1 = 0 → (cm_tg σ x0 = 26 ∧
100 < cm_tg σ (cm_R σ x0 0) ∧
wp_c (d - 1) 473 [.int (cm_I σ x0 1), .int (Int32.ofNat (cm_ln σ (cm_R σ x0 0)))] σ (qi fun r1 σ1 => cm_tg σ1 x0 = 26 ∧
cm_K cp ≤ x0 ∧
(∀ σ2, σ2 = cm_pI σ1 x0 1 r1 → 
104 < cm_tg σ2 (cm_R σ x0 0) ∧
cm_in r1 (cm_ln σ2 (cm_R σ x0 0)) = true ∧
cm_K cp ≤ (cm_R σ x0 0) ∧
(x1 = 0 ∨ cp_asg (cm_tg σ2 (cm_R σ x0 0)) (cm_tg σ2 x1) = true) ∧
(∀ σ3, σ3 = cm_pR σ2 (cm_R σ x0 0) (cm_ix r1) x1 → 
((cm_I σ3 x0 1) = (cm_I σ3 x0 2) → (wp_c (d - 1) 475 [.ref x0, .int (zi 1)] σ3 (qv fun σ4 => Q (false, .int 0, σ4)))) ∧
(¬ (cm_I σ3 x0 1) = (cm_I σ3 x0 2) → (Q (false, .int 0, σ3))))))))) : wp_c d 472 [.ref x0, .ref x1] σ Q :=
  wc_in (by omega) rfl rfl (L := [.ref x0, .ref x1, .null]) rfl (have hd : 1 ≤ d - 1 := (by omega); (wr_aload_n rfl rfl rfl (wr_ifnonnull rfl rfl (cr_ii h0 (fun c1 h2 => (False.elim h2)) (fun c3 h4 => (wr_aload_n rfl rfl rfl (wr_gfR rfl rfl (by decide) h4.1 (wr_astore_n rfl rfl rfl (L2 := [.ref x0, .ref x1, .ref (cm_R σ x0 0)]) rfl (wr_aload_n rfl rfl rfl (wr_aload_n rfl rfl rfl (wr_aload_n rfl rfl rfl (wr_gfI rfl rfl (by decide) ⟨by decide, by decide⟩ h4.1 (wr_aload_n rfl rfl rfl (wr_arraylength rfl rfl h4.2.1 (wr_invsi rfl hd rfl (fun _ => rfl) rfl rfl (wm_i h4.2.2 fun r1 σ1 h5 => (wr_dup_x1 rfl rfl rfl rfl (wr_pfI rfl rfl (by decide) ⟨by decide, by decide⟩ h5.1 h5.2.1 rfl (wr_aload_n rfl rfl rfl (wr_aastore rfl rfl (h5.2.2 _ rfl).1 (h5.2.2 _ rfl).2.1 (h5.2.2 _ rfl).2.2.1 (h5.2.2 _ rfl).2.2.2.1 (wr_aload_n rfl rfl rfl (wr_gfI rfl rfl (by decide) ⟨by decide, by decide⟩ h5.1 (wr_aload_n rfl rfl rfl (wr_gfI rfl rfl (by decide) ⟨by decide, by decide⟩ h5.1 (wr_icmp_ne rfl rfl (cr_ii ((h5.2.2 _ rfl).2.2.2.2 _ rfl) (fun c6 h7 => (wr_aload_n rfl rfl rfl (wr_iconst rfl rfl (wr_invwv rfl hd rfl (fun _ => rfl) rfl (cr_dt rfl h5.1) rfl (wm_v h7 fun σ4 h8 => (wr_return rfl h8)))))) (fun c9 h10 => (wr_return rfl h10))))))))))))))))))))))))))))
/-- java/util/ArrayDeque.dec(II)I : labels [] -/
theorem k473 {d : Nat} {x0 : Int32} {x1 : Int32} {σ : cm_S} {Q : cm_O → Prop} (hd : 1 ≤ d) (h0 : ((x0 + zi (-1)) < (zi 0) → (Q (false, .int (x1 - (zi 1)), σ))) ∧
(¬ (x0 + zi (-1)) < (zi 0) → (Q (false, .int (x0 + zi (-1)), σ)))) : wp_c d 473 [.int x0, .int x1] σ Q :=
  wc_in (by omega) rfl rfl (L := [.int x0, .int x1]) rfl ((wr_iinc rfl rfl rfl (L2 := [.int (x0 + zi (-1)), .int x1]) rfl (wr_iload_n rfl rfl rfl (wr_if_ge rfl rfl (cr_ii h0 (fun c1 h2 => (wr_iload_n rfl rfl rfl (wr_iconst rfl rfl (wr_isub rfl rfl (wr_istore_n rfl rfl rfl (L2 := [.int (x1 - (zi 1)), .int x1]) rfl (wr_iload_n rfl rfl rfl (wr_ireturn rfl rfl h2))))))) (fun c3 h4 => (wr_iload_n rfl rfl rfl (wr_ireturn rfl rfl h4))))))))
/-- java/util/ArrayDeque.elementAt([Ljava/lang/Object;I)Ljava/lang/Object; : labels [] -/
theorem k474 {d : Nat} {x0 : Nat} {x1 : Int32} {σ : cm_S} {Q : cm_O → Prop} (hd : 1 ≤ d) (h0 : 104 < cm_tg σ x0 ∧
cm_in x1 (cm_ln σ x0) = true ∧
Q (false, .ref (cm_R σ x0 (cm_ix x1)), σ)) : wp_c d 474 [.ref x0, .int x1] σ Q :=
  wc_in (by omega) rfl rfl (L := [.ref x0, .int x1]) rfl ((wr_aload_n rfl rfl rfl (wr_iload_n rfl rfl rfl (wr_aaload rfl rfl h0.1 h0.2.1 (wr_areturn rfl h0.2.2)))))
/-- java/util/ArrayDeque.grow(I)V : labels [49, 96, 145] -/
theorem k475 {d : Nat} {x0 : Nat} {x1 : Int32} {σ : cm_S} {Q : cm_O → Prop} (hd : 2 ≤ d) (h0 : cm_tg σ x0 = 26 ∧
100 < cm_tg σ (cm_R σ x0 0) ∧
((Int32.ofNat (cm_ln σ (cm_R σ x0 0))) < (zi 64) → ((((Int32.ofNat (cm_ln σ (cm_R σ x0 0))) + (zi 2)) < x1 → (wp_c (d - 1) 479 [.ref x0, .int x1, .int ((Int32.ofNat (cm_ln σ (cm_R σ x0 0))) + (zi 2))] σ (qi fun r1 σ1 => wp_r (d - 1) 475 (49, [.ref x0, .int x1, .int (Int32.ofNat (cm_ln σ (cm_R σ x0 0))), .int r1, .int ((Int32.ofNat (cm_ln σ (cm_R σ x0 0))) + (zi 2)), .null, .null, .null, .null], [], σ1) Q))) ∧
(¬ ((Int32.ofNat (cm_ln σ (cm_R σ x0 0))) + (zi 2)) < x1 → (((zi 0) < (((Int32.ofNat (cm_ln σ (cm_R σ x0 0))) + ((Int32.ofNat (cm_ln σ (cm_R σ x0 0))) + (zi 2))) - (zi 2147483639)) → (wp_c (d - 1) 479 [.ref x0, .int x1, .int ((Int32.ofNat (cm_ln σ (cm_R σ x0 0))) + (zi 2))] σ (qi fun r2 σ2 => wp_r (d - 1) 475 (49, [.ref x0, .int x1, .int (Int32.ofNat (cm_ln σ (cm_R σ x0 0))), .int r2, .int ((Int32.ofNat (cm_ln σ (cm_R σ x0 0))) + (zi 2)), .null, .null, .null, .null], [], σ2) Q))) ∧
(¬ (zi 0) < (((Int32.ofNat (cm_ln σ (cm_R σ x0 0))) + ((Int32.ofNat (cm_ln σ (cm_R σ x0 0))) + (zi 2))) - (zi 2147483639)) → (wp_r (d - 1) 475 (49, [.ref x0, .int x1, .int (Int32.ofNat (cm_ln σ (cm_R σ x0 0))), .int ((Int32.ofNat (cm_ln σ (cm_R σ x0 0))) + ((Int32.ofNat (cm_ln σ (cm_R σ x0 0))) + (zi 2))), .int ((Int32.ofNat (cm_ln σ (cm_R σ x0 0))) + (zi 2)), .null, .null, .null, .null], [], σ) Q)))))) ∧
(¬ (Int32.ofNat (cm_ln σ (cm_R σ x0 0))) < (zi 64) → ((((Int32.ofNat (cm_ln σ (cm_R σ x0 0))) >>> ((zi 1) &&& 31)) < x1 → (wp_c (d - 1) 479 [.ref x0, .int x1, .int ((Int32.ofNat (cm_ln σ (cm_R σ x0 0))) >>> ((zi 1) &&& 31))] σ (qi fun r3 σ3 => wp_r (d - 1) 475 (49, [.ref x0, .int x1, .int (Int32.ofNat (cm_ln σ (cm_R σ x0 0))), .int r3, .int ((Int32.ofNat (cm_ln σ (cm_R σ x0 0))) >>> ((zi 1) &&& 31)), .null, .null, .null, .null], [], σ3) Q))) ∧
(¬ ((Int32.ofNat (cm_ln σ (cm_R σ x0 0))) >>> ((zi 1) &&& 31)) < x1 → (((zi 0) < (((Int32.ofNat (cm_ln σ (cm_R σ x0 0))) + ((Int32.ofNat (cm_ln σ (cm_R σ x0 0))) >>> ((zi 1) &&& 31))) - (zi 2147483639)) → (wp_c (d - 1) 479 [.ref x0, .int x1, .int ((Int32.ofNat (cm_ln σ (cm_R σ x0 0))) >>> ((zi 1) &&& 31))] σ (qi fun r4 σ4 => wp_r (d - 1) 475 (49, [.ref x0, .int x1, .int (Int32.ofNat (cm_ln σ (cm_R σ x0 0))), .int r4, .int ((Int32.ofNat (cm_ln σ (cm_R σ x0 0))) >>> ((zi 1) &&& 31)), .null, .null, .null, .null], [], σ4) Q))) ∧
(¬ (zi 0) < (((Int32.ofNat (cm_ln σ (cm_R σ x0 0))) + ((Int32.ofNat (cm_ln σ (cm_R σ x0 0))) >>> ((zi 1) &&& 31))) - (zi 2147483639)) → (wp_r (d - 1) 475 (49, [.ref x0, .int x1, .int (Int32.ofNat (cm_ln σ (cm_R σ x0 0))), .int ((Int32.ofNat (cm_ln σ (cm_R σ x0 0))) + ((Int32.ofNat (cm_ln σ (cm_R σ x0 0))) >>> ((zi 1) &&& 31))), .int ((Int32.ofNat (cm_ln σ (cm_R σ x0 0))) >>> ((zi 1) &&& 31)), .null, .null, .null, .null], [], σ) Q))))))) : wp_c d 475 [.ref x0, .int x1] σ Q :=
  wc_in (by omega) rfl rfl (L := [.ref x0, .int x1, .null, .null, .null, .null, .null, .null, .null]) rfl (have hd : 1 ≤ d - 1 := (by omega); (wr_aload_n rfl rfl rfl (wr_gfR rfl rfl (by decide) h0.1 (wr_arraylength rfl rfl h0.2.1 (wr_istore_n rfl rfl rfl (L2 := [.ref x0, .int x1, .int (Int32.ofNat (cm_ln σ (cm_R σ x0 0))), .null, .null, .null, .null, .null, .null]) rfl (wr_iload_n rfl rfl rfl (wr_bipush (a := zi 64) rfl rfl rfl (wr_icmp_ge rfl rfl (cr_ii h0.2.2 (fun c1 h2 => (wr_iload_n rfl rfl rfl (wr_iconst rfl rfl (wr_iadd rfl rfl (wr_goto rfl (wr_istore rfl rfl rfl (L2 := [.ref x0, .int x1, .int (Int32.ofNat (cm_ln σ (cm_R σ x0 0))), .null, .int ((Int32.ofNat (cm_ln σ (cm_R σ x0 0))) + (zi 2)), .null, .null, .null, .null]) rfl (wr_iload rfl rfl rfl (wr_iload_n rfl rfl rfl (wr_icmp_lt rfl rfl (cr_ii h2 (fun c3 h4 => (wr_aload_n rfl rfl rfl (wr_iload_n rfl rfl rfl (wr_iload rfl rfl rfl (wr_invwi rfl hd rfl (fun _ => rfl) rfl (cr_dt rfl h0.1) rfl (wm_i h4 fun r1 σ1 h5 => (wr_istore_n rfl rfl rfl (L2 := [.ref x0, .int x1, .int (Int32.ofNat (cm_ln σ (cm_R σ x0 0))), .int r1, .int ((Int32.ofNat (cm_ln σ (cm_R σ x0 0))) + (zi 2)), .null, .null, .null, .null]) rfl h5))))))) (fun c6 h7 => (wr_iload_n rfl rfl rfl (wr_iload rfl rfl rfl (wr_iadd rfl rfl (wr_dup rfl rfl rfl (wr_istore_n rfl rfl rfl (L2 := [.ref x0, .int x1, .int (Int32.ofNat (cm_ln σ (cm_R σ x0 0))), .int ((Int32.ofNat (cm_ln σ (cm_R σ x0 0))) + ((Int32.ofNat (cm_ln σ (cm_R σ x0 0))) + (zi 2))), .int ((Int32.ofNat (cm_ln σ (cm_R σ x0 0))) + (zi 2)), .null, .null, .null, .null]) rfl (wr_ldc rfl (w := .int (zi 2147483639)) rfl rfl (wr_isub rfl rfl (wr_if_le rfl rfl (cr_ii h7 (fun c8 h9 => (wr_aload_n rfl rfl rfl (wr_iload_n rfl rfl rfl (wr_iload rfl rfl rfl (wr_invwi rfl hd rfl (fun _ => rfl) rfl (cr_dt rfl h0.1) rfl (wm_i h9 fun r2 σ2 h10 => (wr_istore_n rfl rfl rfl (L2 := [.ref x0, .int x1, .int (Int32.ofNat (cm_ln σ (cm_R σ x0 0))), .int r2, .int ((Int32.ofNat (cm_ln σ (cm_R σ x0 0))) + (zi 2)), .null, .null, .null, .null]) rfl h10))))))) (fun c11 h12 => h12))))))))))))))))))))) (fun c13 h14 => (wr_iload_n rfl rfl rfl (wr_iconst rfl rfl (wr_ishr rfl rfl (wr_istore rfl rfl rfl (L2 := [.ref x0, .int x1, .int (Int32.ofNat (cm_ln σ (cm_R σ x0 0))), .null, .int ((Int32.ofNat (cm_ln σ (cm_R σ x0 0))) >>> ((zi 1) &&& 31)), .null, .null, .null, .null]) rfl (wr_iload rfl rfl rfl (wr_iload_n rfl rfl rfl (wr_icmp_lt rfl rfl (cr_ii h14 (fun c15 h16 => (wr_aload_n rfl rfl rfl (wr_iload_n rfl rfl rfl (wr_iload rfl rfl rfl (wr_invwi rfl hd rfl (fun _ => rfl) rfl (cr_dt rfl h0.1) rfl (wm_i h16 fun r3 σ3 h17 => (wr_istore_n rfl rfl rfl (L2 := [.ref x0, .int x1, .int (Int32.ofNat (cm_ln σ (cm_R σ x0 0))), .int r3, .int ((Int32.ofNat (cm_ln σ (cm_R σ x0 0))) >>> ((zi 1) &&& 31)), .null, .null, .null, .null]) rfl h17))))))) (fun c18 h19 => (wr_iload_n rfl rfl rfl (wr_iload rfl rfl rfl (wr_iadd rfl rfl (wr_dup rfl rfl rfl (wr_istore_n rfl rfl rfl (L2 := [.ref x0, .int x1, .int (Int32.ofNat (cm_ln σ (cm_R σ x0 0))), .int ((Int32.ofNat (cm_ln σ (cm_R σ x0 0))) + ((Int32.ofNat (cm_ln σ (cm_R σ x0 0))) >>> ((zi 1) &&& 31))), .int ((Int32.ofNat (cm_ln σ (cm_R σ x0 0))) >>> ((zi 1) &&& 31)), .null, .null, .null, .null]) rfl (wr_ldc rfl (w := .int (zi 2147483639)) rfl rfl (wr_isub rfl rfl (wr_if_le rfl rfl (cr_ii h19 (fun c20 h21 => (wr_aload_n rfl rfl rfl (wr_iload_n rfl rfl rfl (wr_iload rfl rfl rfl (wr_invwi rfl hd rfl (fun _ => rfl) rfl (cr_dt rfl h0.1) rfl (wm_i h21 fun r4 σ4 h22 => (wr_istore_n rfl rfl rfl (L2 := [.ref x0, .int x1, .int (Int32.ofNat (cm_ln σ (cm_R σ x0 0))), .int r4, .int ((Int32.ofNat (cm_ln σ (cm_R σ x0 0))) >>> ((zi 1) &&& 31)), .null, .null, .null, .null]) rfl h22))))))) (fun c23 h24 => h24)))))))))))))))))))))))))))))
theorem k475_49 {d : Nat} {x0 : Nat} {x1 : Int32} {x2 : Int32} {x3 : Int32} {x4 : Int32} {x5 : Value} {x6 : Value} {x7 : Value} {x8 : Value} {σ : cm_S} {Q : cm_O → Prop} (hd : 1 ≤ d) (h0 : cm_tg σ x0 = 26 ∧
wp_c d 589 [.ref (cm_R σ x0 0), .int x3] σ (qr fun r1 σ1 => cm_tg σ1 x0 = 26 ∧
cm_K cp ≤ x0 ∧
(∀ σ2, σ2 = cm_pR σ1 x0 0 r1 → 
((cm_I σ2 x0 2) < (cm_I σ2 x0 1) → (wp_r d 475 (96, [.ref x0, .int x1, .int x2, .int x3, .int x4, .ref r1, x6, x7, x8], [], σ2) Q)) ∧
(¬ (cm_I σ2 x0 2) < (cm_I σ2 x0 1) → (((cm_I σ2 x0 2) = (cm_I σ2 x0 1) → (104 < cm_tg σ2 r1 ∧
cm_in (cm_I σ2 x0 1) (cm_ln σ2 r1) = true ∧
((cm_R σ2 r1 (cm_ix (cm_I σ2 x0 1))) = 0 → (Q (false, .int 0, σ2))) ∧
(¬ (cm_R σ2 r1 (cm_ix (cm_I σ2 x0 1))) = 0 → (wp_r d 475 (96, [.ref x0, .int x1, .int x2, .int x3, .int x4, .ref r1, x6, x7, x8], [], σ2) Q)))) ∧
(¬ (cm_I σ2 x0 2) = (cm_I σ2 x0 1) → (Q (false, .int 0, σ2)))))))) : wp_r d 475 (49, [.ref x0, .int x1, .int x2, .int x3, .int x4, x5, x6, x7, x8], [], σ) Q :=
  (wr_aload_n rfl rfl rfl (wr_aload_n rfl rfl rfl (wr_gfR rfl rfl (by decide) h0.1 (wr_iload_n rfl rfl rfl (wr_invsr rfl hd rfl (fun _ => rfl) rfl rfl (wm_r h0.2 fun r1 σ1 h1 => (wr_dup_x1 rfl rfl rfl rfl (wr_pfR rfl rfl (by decide) h1.1 h1.2.1 (wr_astore rfl rfl rfl (L2 := [.ref x0, .int x1, .int x2, .int x3, .int x4, .ref r1, x6, x7, x8]) rfl (wr_aload_n rfl rfl rfl (wr_gfI rfl rfl (by decide) ⟨by decide, by decide⟩ h1.1 (wr_aload_n rfl rfl rfl (wr_gfI rfl rfl (by decide) ⟨by decide, by decide⟩ h1.1 (wr_icmp_lt rfl rfl (cr_ii (h1.2.2 _ rfl) (fun c2 h3 => h3) (fun c4 h5 => (wr_aload_n rfl rfl rfl (wr_gfI rfl rfl (by decide) ⟨by decide, by decide⟩ h1.1 (wr_aload_n rfl rfl rfl (wr_gfI rfl rfl (by decide) ⟨by decide, by decide⟩ h1.1 (wr_icmp_ne rfl rfl (cr_ii h5 (fun c6 h7 => (wr_aload rfl rfl rfl (wr_aload_n rfl rfl rfl (wr_gfI rfl rfl (by decide) ⟨by decide, by decide⟩ h1.1 (wr_aaload rfl rfl h7.1 h7.2.1 (wr_ifnull rfl rfl (cr_ii h7.2.2 (fun c8 h9 => (wr_return rfl h9)) (fun c10 h11 => h11)))))))) (fun c12 h13 => (wr_return rfl h13))))))))))))))))))))))))
theorem k475_96 {d : Nat} {x0 : Nat} {x1 : Int32} {x2 : Int32} {x3 : Int32} {x4 : Int32} {x5 : Nat} {x6 : Value} {x7 : Value} {x8 : Value} {σ : cm_S} {Q : cm_O → Prop} (hd : 1 ≤ d) (h0 : cm_tg σ x0 = 26 ∧
cm_cw σ x5 x5 (cm_I σ x0 1) ((cm_I σ x0 1) + (x3 - x2)) (x2 - (cm_I σ x0 1)) (fun σ1 => cm_tg σ1 x0 = 26 ∧
cm_K cp ≤ x0 ∧
(∀ σ2, σ2 = cm_pI σ1 x0 1 ((cm_I σ1 x0 1) + (x3 - x2)) → 
wp_r d 475 (145, [.ref x0, .int x1, .int x2, .int x3, .int x4, .ref x5, .int (x3 - x2), .int (cm_I σ1 x0 1), .int ((cm_I σ1 x0 1) + (x3 - x2))], [], σ2) Q))) : wp_r d 475 (96, [.ref x0, .int x1, .int x2, .int x3, .int x4, .ref x5, x6, x7, x8], [], σ) Q :=
  (wr_iload_n rfl rfl rfl (wr_iload_n rfl rfl rfl (wr_isub rfl rfl (wr_istore rfl rfl rfl (L2 := [.ref x0, .int x1, .int x2, .int x3, .int x4, .ref x5, .int (x3 - x2), x7, x8]) rfl (wr_aload rfl rfl rfl (wr_aload_n rfl rfl rfl (wr_gfI rfl rfl (by decide) ⟨by decide, by decide⟩ h0.1 (wr_aload rfl rfl rfl (wr_aload_n rfl rfl rfl (wr_gfI rfl rfl (by decide) ⟨by decide, by decide⟩ h0.1 (wr_iload rfl rfl rfl (wr_iadd rfl rfl (wr_iload_n rfl rfl rfl (wr_aload_n rfl rfl rfl (wr_gfI rfl rfl (by decide) ⟨by decide, by decide⟩ h0.1 (wr_isub rfl rfl (wr_arraycopy rfl hd rfl rfl (h0.2.mono (fun σ1 h1 => (wr_aload_n rfl rfl rfl (wr_gfI rfl rfl (by decide) ⟨by decide, by decide⟩ h1.1 (wr_istore rfl rfl rfl (L2 := [.ref x0, .int x1, .int x2, .int x3, .int x4, .ref x5, .int (x3 - x2), .int (cm_I σ1 x0 1), x8]) rfl (wr_aload_n rfl rfl rfl (wr_dup rfl rfl rfl (wr_gfI rfl rfl (by decide) ⟨by decide, by decide⟩ h1.1 (wr_iload rfl rfl rfl (wr_iadd rfl rfl (wr_dup_x1 rfl rfl rfl rfl (wr_pfI rfl rfl (by decide) ⟨by decide, by decide⟩ h1.1 h1.2.1 rfl (wr_istore rfl rfl rfl (L2 := [.ref x0, .int x1, .int x2, .int x3, .int x4, .ref x5, .int (x3 - x2), .int (cm_I σ1 x0 1), .int ((cm_I σ1 x0 1) + (x3 - x2))]) rfl (h1.2.2 _ rfl)))))))))))))))))))))))))))))))
theorem k475_145 {d : Nat} {x0 : Nat} {x1 : Int32} {x2 : Int32} {x3 : Int32} {x4 : Int32} {x5 : Nat} {x6 : Int32} {x7 : Int32} {x8 : Int32} {σ : cm_S} {Q : cm_O → Prop} (hd : 1 ≤ d) (h0 : (x7 < x8 → (104 < cm_tg σ x5 ∧
cm_in x7 (cm_ln σ x5) = true ∧
cm_K cp ≤ x5 ∧
(0 = 0 ∨ cp_asg (cm_tg σ x5) (cm_tg σ 0) = true) ∧
(∀ σ1, σ1 = cm_pR σ x5 (cm_ix x7) 0 → 
wp_r d 475 (145, [.ref x0, .int x1, .int x2, .int x3, .int x4, .ref x5, .int x6, .int (x7 + zi 1), .int x8], [], σ1) Q))) ∧
(¬ x7 < x8 → (Q (false, .int 0, σ)))) : wp_r d 475 (145, [.ref x0, .int x1, .int x2, .int x3, .int x4, .ref x5, .int x6, .int x7, .int x8], [], σ) Q :=
  (wr_iload rfl rfl rfl (wr_iload rfl rfl rfl (wr_icmp_ge rfl rfl (cr_ii h0 (fun c1 h2 => (wr_aload rfl rfl rfl (wr_iload rfl rfl rfl (wr_aconst_null rfl rfl (wr_aastore rfl rfl h2.1 h2.2.1 h2.2.2.1 h2.2.2.2.1 (wr_iinc rfl rfl rfl (L2 := [.ref x0, .int x1, .int x2, .int x3, .int x4, .ref x5, .int x6, .int (x7 + zi 1), .int x8]) rfl (wr_goto rfl (h2.2.2.2.2 _ rfl)))))))) (fun c3 h4 => (wr_return rfl h4))))))
/-- java/util/ArrayDeque.inc(II)I : labels [] -/
theorem k476 {d : Nat} {x0 : Int32} {x1 : Int32} {σ : cm_S} {Q : cm_O → Prop} (hd : 1 ≤ d) (h0 : ((x0 + zi 1) < x1 → (Q (false, .int (x0 + zi 1), σ))) ∧
(¬ (x0 + zi 1) < x1 → (Q (false, .int (zi 0), σ)))) : wp_c d 476 [.int x0, .int x1] σ Q :=
  wc_in (by omega) rfl rfl (L := [.int x0, .int x1]) rfl ((wr_iinc rfl rfl rfl (L2 := [.int (x0 + zi 1), .int x1]) rfl (wr_iload_n rfl rfl rfl (wr_iload_n rfl rfl rfl (wr_icmp_lt rfl rfl (cr_ii h0 (fun c1 h2 => (wr_iload_n rfl rfl rfl (wr_ireturn rfl rfl h2))) (fun c3 h4 => (wr_iconst rfl rfl (wr_istore_n rfl rfl rfl (L2 := [.int (zi 0), .int x1]) rfl (wr_iload_n rfl rfl rfl (wr_ireturn rfl rfl h4)))))))))))
/-- java/util/ArrayDeque.<init>()V : labels [] -/
theorem k477 {d : Nat} {x0 : Nat} {σ : cm_S} {Q : cm_O → Prop} (hd : 2 ≤ d) (h0 : (cm_tg σ x0 ≠ 0 ∧ cm_tg σ x0 < 60) ∧
wp_c (d - 1) 455 [.ref x0] σ (qv fun σ1 => ∀ σ2, σ2 = cm_al σ1 105 (cm_ix (zi 17)) → 
cm_tg σ2 x0 = 26 ∧
cm_K cp ≤ x0 ∧
(∀ σ3, σ3 = cm_pR σ2 x0 0 (cm_nx σ1) → 
Q (false, .int 0, σ3)))) : wp_c d 477 [.ref x0] σ Q :=
  wc_in (by omega) rfl rfl (L := [.ref x0]) rfl (have hd : 1 ≤ d - 1 := (by omega); (wr_aload_n rfl rfl rfl (wr_invpv rfl hd rfl (fun _ => rfl) rfl h0.1 rfl (wm_v h0.2 fun σ1 h1 => (wr_aload_n rfl rfl rfl (wr_bipush (a := zi 17) rfl rfl rfl (wr_anewarray rfl rfl (by decide) (wr_pfR rfl rfl (by decide) (h1 _ rfl).1 (h1 _ rfl).2.1 (wr_return rfl ((h1 _ rfl).2.2 _ rfl))))))))))
/-- java/util/ArrayDeque.isEmpty()Z : labels [] -/
theorem k478 {d : Nat} {x0 : Nat} {σ : cm_S} {Q : cm_O → Prop} (hd : 1 ≤ d) (h0 : cm_tg σ x0 = 26 ∧
((cm_I σ x0 1) = (cm_I σ x0 2) → (Q (false, .int (zi 1), σ))) ∧
(¬ (cm_I σ x0 1) = (cm_I σ x0 2) → (Q (false, .int (zi 0), σ)))) : wp_c d 478 [.ref x0] σ Q :=
  wc_in (by omega) rfl rfl (L := [.ref x0]) rfl ((wr_aload_n rfl rfl rfl (wr_gfI rfl rfl (by decide) ⟨by decide, by decide⟩ h0.1 (wr_aload_n rfl rfl rfl (wr_gfI rfl rfl (by decide) ⟨by decide, by decide⟩ h0.1 (wr_icmp_ne rfl rfl (cr_ii h0.2 (fun c1 h2 => (wr_iconst rfl rfl (wr_goto rfl (wr_ireturn rfl (by decide) h2)))) (fun c3 h4 => (wr_iconst rfl rfl (wr_ireturn rfl (by decide) h4))))))))))
/-- java/util/ArrayDeque.newCapacity(II)I : labels [] -/
theorem k479 {d : Nat} {x0 : Nat} {x1 : Int32} {x2 : Int32} {σ : cm_S} {Q : cm_O → Prop} (hd : 1 ≤ d) (h0 : cm_tg σ x0 = 26 ∧
100 < cm_tg σ (cm_R σ x0 0) ∧
((zi 0) < (((Int32.ofNat (cm_ln σ (cm_R σ x0 0))) + x1) - (zi 2147483639)) → ((((Int32.ofNat (cm_ln σ (cm_R σ x0 0))) + x1) < (zi 0) → (False)) ∧
(¬ ((Int32.ofNat (cm_ln σ (cm_R σ x0 0))) + x1) < (zi 0) → (Q (false, .int (zi 2147483647), σ))))) ∧
(¬ (zi 0) < (((Int32.ofNat (cm_ln σ (cm_R σ x0 0))) + x1) - (zi 2147483639)) → ((x2 < x1 → (Q (false, .int ((Int32.ofNat (cm_ln σ (cm_R σ x0 0))) + x1), σ))) ∧
(¬ x2 < x1 → (((((Int32.ofNat (cm_ln σ (cm_R σ x0 0))) + x2) - (zi 2147483639)) < (zi 0) → (Q (false, .int ((Int32.ofNat (cm_ln σ (cm_R σ x0 0))) + x2), σ))) ∧
(¬ (((Int32.ofNat (cm_ln σ (cm_R σ x0 0))) + x2) - (zi 2147483639)) < (zi 0) → (Q (false, .int (zi 2147483639), σ)))))))) : wp_c d 479 [.ref x0, .int x1, .int x2] σ Q :=
  wc_in (by omega) rfl rfl (L := [.ref x0, .int x1, .int x2, .null, .null]) rfl ((wr_aload_n rfl rfl rfl (wr_gfR rfl rfl (by decide) h0.1 (wr_arraylength rfl rfl h0.2.1 (wr_istore_n rfl rfl rfl (L2 := [.ref x0, .int x1, .int x2, .int (Int32.ofNat (cm_ln σ (cm_R σ x0 0))), .null]) rfl (wr_iload_n rfl rfl rfl (wr_iload_n rfl rfl rfl (wr_iadd rfl rfl (wr_dup rfl rfl rfl (wr_istore rfl rfl rfl (L2 := [.ref x0, .int x1, .int x2, .int (Int32.ofNat (cm_ln σ (cm_R σ x0 0))), .int ((Int32.ofNat (cm_ln σ (cm_R σ x0 0))) + x1)]) rfl (wr_ldc rfl (w := .int (zi 2147483639)) rfl rfl (wr_isub rfl rfl (wr_if_le rfl rfl (cr_ii h0.2.2 (fun c1 h2 => (wr_iload rfl rfl rfl (wr_if_ge rfl rfl (cr_ii h2 (fun c3 h4 => (False.elim h4)) (fun c5 h6 => (wr_ldc rfl (w := .int (zi 2147483647)) rfl rfl (wr_ireturn rfl rfl h6))))))) (fun c7 h8 => (wr_iload_n rfl rfl rfl (wr_iload_n rfl rfl rfl (wr_icmp_le rfl rfl (cr_ii h8 (fun c9 h10 => (wr_iload rfl rfl rfl (wr_ireturn rfl rfl h10))) (fun c11 h12 => (wr_iload_n rfl rfl rfl (wr_iload_n rfl rfl rfl (wr_iadd rfl rfl (wr_ldc rfl (w := .int (zi 2147483639)) rfl rfl (wr_isub rfl rfl (wr_if_ge rfl rfl (cr_ii h12 (fun c13 h14 => (wr_iload_n rfl rfl rfl (wr_iload_n rfl rfl rfl (wr_iadd rfl rfl (wr_goto rfl (wr_ireturn rfl rfl h14)))))) (fun c15 h16 => (wr_ldc rfl (w := .int (zi 2147483639)) rfl rfl (wr_ireturn rfl rfl h16))))))))))))))))))))))))))))))
/-- java/util/ArrayDeque.pollFirst()Ljava/lang/Object; : labels [] -/
theorem k480 {d : Nat} {x0 : Nat} {σ : cm_S} {Q : cm_O → Prop} (hd : 2 ≤ d) (h0 : cm_tg σ x0 = 26 ∧
wp_c (d - 1) 474 [.ref (cm_R σ x0 0), .int (cm_I σ x0 1)] σ (qr fun r1 σ1 => (r1 = 0 → (Q (false, .ref r1, σ1))) ∧
(¬ r1 = 0 → (104 < cm_tg σ1 (cm_R σ x0 0) ∧
cm_in (cm_I σ x0 1) (cm_ln σ1 (cm_R σ x0 0)) = true ∧
cm_K cp ≤ (cm_R σ x0 0) ∧
(0 = 0 ∨ cp_asg (cm_tg σ1 (cm_R σ x0 0)) (cm_tg σ1 0) = true) ∧
(∀ σ2, σ2 = cm_pR σ1 (cm_R σ x0 0) (cm_ix (cm_I σ x0 1)) 0 → 
100 < cm_tg σ2 (cm_R σ x0 0) ∧
wp_c (d - 1) 476 [.int (cm_I σ x0 1), .int (Int32.ofNat (cm_ln σ2 (cm_R σ x0 0)))] σ2 (qi fun r3 σ3 => cm_tg σ3 x0 = 26 ∧
cm_K cp ≤ x0 ∧
(∀ σ4, σ4 = cm_pI σ3 x0 1 r3 → 
Q (false, .ref r1, σ4)))))))) : wp_c d 480 [.ref x0] σ Q :=
  wc_in (by omega) rfl rfl (L := [.ref x0, .null, .null, .null]) rfl (have hd : 1 ≤ d - 1 := (by omega); (wr_aload_n rfl rfl rfl (wr_gfR rfl rfl (by decide) h0.1 (wr_dup rfl rfl rfl (wr_astore_n rfl rfl rfl (L2 := [.ref x0, .ref (cm_R σ x0 0), .null, .null]) rfl (wr_aload_n rfl rfl rfl (wr_gfI rfl rfl (by decide) ⟨by decide, by decide⟩ h0.1 (wr_dup rfl rfl rfl (wr_istore_n rfl rfl rfl (L2 := [.ref x0, .ref (cm_R σ x0 0), .int (cm_I σ x0 1), .null]) rfl (wr_invsr rfl hd rfl (fun _ => rfl) rfl rfl (wm_r h0.2 fun r1 σ1 h1 => (wr_astore_n rfl rfl rfl (L2 := [.ref x0, .ref (cm_R σ x0 0), .int (cm_I σ x0 1), .ref r1]) rfl (wr_aload_n rfl rfl rfl (wr_ifnull rfl rfl (cr_ii h1 (fun c2 h3 => (wr_aload_n rfl rfl rfl (wr_areturn rfl h3))) (fun c4 h5 => (wr_aload_n rfl rfl rfl (wr_iload_n rfl rfl rfl (wr_aconst_null rfl rfl (wr_aastore rfl rfl h5.1 h5.2.1 h5.2.2.1 h5.2.2.2.1 (wr_aload_n rfl rfl rfl (wr_iload_n rfl rfl rfl (wr_aload_n rfl rfl rfl (wr_arraylength rfl rfl (h5.2.2.2.2 _ rfl).1 (wr_invsi rfl hd rfl (fun _ => rfl) rfl rfl (wm_i (h5.2.2.2.2 _ rfl).2 fun r3 σ3 h6 => (wr_pfI rfl rfl (by decide) ⟨by decide, by decide⟩ h6.1 h6.2.1 rfl (wr_aload_n rfl rfl rfl (wr_areturn rfl (h6.2.2 _ rfl))))))))))))))))))))))))))))))
/-- java/util/ArrayDeque.pollLast()Ljava/lang/Object; : labels [] -/
theorem k481 {d : Nat} {x0 : Nat} {σ : cm_S} {Q : cm_O → Prop} (hd : 2 ≤ d) (h0 : cm_tg σ x0 = 26 ∧
100 < cm_tg σ (cm_R σ x0 0) ∧
wp_c (d - 1) 473 [.int (cm_I σ x0 2), .int (Int32.ofNat (cm_ln σ (cm_R σ x0 0)))] σ (qi fun r1 σ1 => wp_c (d - 1) 474 [.ref (cm_R σ x0 0), .int r1] σ1 (qr fun r2 σ2 => (r2 = 0 → (Q (false, .ref r2, σ2))) ∧
(¬ r2 = 0 → (cm_tg σ2 x0 = 26 ∧
cm_K cp ≤ x0 ∧
(∀ σ3, σ3 = cm_pI σ2 x0 2 r1 → 
104 < cm_tg σ3 (cm_R σ x0 0) ∧
cm_in r1 (cm_ln σ3 (cm_R σ x0 0)) = true ∧
cm_K cp ≤ (cm_R σ x0 0) ∧
(0 = 0 ∨ cp_asg (cm_tg σ3 (cm_R σ x0 0)) (cm_tg σ3 0) = true) ∧
(∀ σ4, σ4 = cm_pR σ3 (cm_R σ x0 0) (cm_ix r1) 0 → 
Q (false, .ref r2, σ4)))))))) : wp_c d 481 [.ref x0] σ Q :=
  wc_in (by omega) rfl rfl (L := [.ref x0, .null, .null, .null]) rfl (have hd : 1 ≤ d - 1 := (by omega); (wr_aload_n rfl rfl rfl (wr_gfR rfl rfl (by decide) h0.1 (wr_dup rfl rfl rfl (wr_astore_n rfl rfl rfl (L2 := [.ref x0, .ref (cm_R σ x0 0), .null, .null]) rfl (wr_aload_n rfl rfl rfl (wr_gfI rfl rfl (by decide) ⟨by decide, by decide⟩ h0.1 (wr_aload_n rfl rfl rfl (wr_arraylength rfl rfl h0.2.1 (wr_invsi rfl hd rfl (fun _ => rfl) rfl rfl (wm_i h0.2.2 fun r1 σ1 h1 => (wr_dup rfl rfl rfl (wr_istore_n rfl rfl rfl (L2 := [.ref x0, .ref (cm_R σ x0 0), .int r1, .null]) rfl (wr_invsr rfl hd rfl (fun _ => rfl) rfl rfl (wm_r h1 fun r2 σ2 h2 => (wr_astore_n rfl rfl rfl (L2 := [.ref x0, .ref (cm_R σ x0 0), .int r1, .ref r2]) rfl (wr_aload_n rfl rfl rfl (wr_ifnull rfl rfl (cr_ii h2 (fun c3 h4 => (wr_aload_n rfl rfl rfl (wr_areturn rfl h4))) (fun c5 h6 => (wr_aload_n rfl rfl rfl (wr_aload_n rfl rfl rfl (wr_iload_n rfl rfl rfl (wr_dup_x1 rfl rfl rfl rfl (wr_pfI rfl rfl (by decide) ⟨by decide, by decide⟩ h6.1 h6.2.1 rfl (wr_aconst_null rfl rfl (wr_aastore rfl rfl (h6.2.2 _ rfl).1 (h6.2.2 _ rfl).2.1 (h6.2.2 _ rfl).2.2.1 (h6.2.2 _ rfl).2.2.2.1 (wr_aload_n rfl rfl rfl (wr_areturn rfl ((h6.2.2 _ rfl).2.2.2.2 _ rfl))))))))))))))))))))))))))))))
/-- java/util/ArrayDeque.pop()Ljava/lang/Object; : labels [] -/
theorem k482 {d : Nat} {x0 : Nat} {σ : cm_S} {Q : cm_O → Prop} (hd : 2 ≤ d) (h0 : cm_tg σ x0 = 26 ∧
wp_c (d - 1) 484 [.ref x0] σ (qr fun r1 σ1 => Q (false, .ref r1, σ1))) : wp_c d 482 [.ref x0] σ Q :=
  wc_in (by omega) rfl rfl (L := [.ref x0]) rfl (have hd : 1 ≤ d - 1 := (by omega); (wr_aload_n rfl rfl rfl (wr_invwr rfl hd rfl (fun _ => rfl) rfl (cr_dt rfl h0.1) rfl (wm_r h0.2 fun r1 σ1 h1 => (wr_areturn rfl h1)))))
/-- java/util/ArrayDeque.push(Ljava/lang/Object;)V : labels [] -/
theorem k483 {d : Nat} {x0 : Nat} {x1 : Nat} {σ : cm_S} {Q : cm_O → Prop} (hd : 2 ≤ d) (h0 : cm_tg σ x0 = 26 ∧
wp_c (d - 1) 472 [.ref x0, .ref x1] σ (qv fun σ1 => Q (false, .int 0, σ1))) : wp_c d 483 [.ref x0, .ref x1] σ Q :=
  wc_in (by omega) rfl rfl (L := [.ref x0, .ref x1]) rfl (have hd : 1 ≤ d - 1 := (by omega); (wr_aload_n rfl rfl rfl (wr_aload_n rfl rfl rfl (wr_invwv rfl hd rfl (fun _ => rfl) rfl (cr_dt rfl h0.1) rfl (wm_v h0.2 fun σ1 h1 => (wr_return rfl h1))))))
/-- java/util/ArrayDeque.removeFirst()Ljava/lang/Object; : labels [] -/
theorem k484 {d : Nat} {x0 : Nat} {σ : cm_S} {Q : cm_O → Prop} (hd : 2 ≤ d) (h0 : cm_tg σ x0 = 26 ∧
wp_c (d - 1) 480 [.ref x0] σ (qr fun r1 σ1 => (r1 = 0 → (False)) ∧
(¬ r1 = 0 → (Q (false, .ref r1, σ1))))) : wp_c d 484 [.ref x0] σ Q :=
  wc_in (by omega) rfl rfl (L := [.ref x0, .null]) rfl (have hd : 1 ≤ d - 1 := (by omega); (wr_aload_n rfl rfl rfl (wr_invwr rfl hd rfl (fun _ => rfl) rfl (cr_dt rfl h0.1) rfl (wm_r h0.2 fun r1 σ1 h1 => (wr_astore_n rfl rfl rfl (L2 := [.ref x0, .ref r1]) rfl (wr_aload_n rfl rfl rfl (wr_ifnonnull rfl rfl (cr_ii h1 (fun c2 h3 => (False.elim h3)) (fun c4 h5 => (wr_aload_n rfl rfl rfl (wr_areturn rfl h5)))))))))))
/-- java/util/ArrayDeque.removeLast()Ljava/lang/Object; : labels [] -/
theorem k485 {d : Nat} {x0 : Nat} {σ : cm_S} {Q : cm_O → Prop} (hd : 2 ≤ d) (h0 : cm_tg σ x0 = 26 ∧
wp_c (d - 1) 481 [.ref x0] σ (qr fun r1 σ1 => (r1 = 0 → (False)) ∧
(¬ r1 = 0 → (Q (false, .ref r1, σ1))))) : wp_c d 485 [.ref x0] σ Q :=
  wc_in (by omega) rfl rfl (L := [.ref x0, .null]) rfl (have hd : 1 ≤ d - 1 := (by omega); (wr_aload_n rfl rfl rfl (wr_invwr rfl hd rfl (fun _ => rfl) rfl (cr_dt rfl h0.1) rfl (wm_r h0.2 fun r1 σ1 h1 => (wr_astore_n rfl rfl rfl (L2 := [.ref x0, .ref r1]) rfl (wr_aload_n rfl rfl rfl (wr_ifnonnull rfl rfl (cr_ii h1 (fun c2 h3 => (False.elim h3)) (fun c4 h5 => (wr_aload_n rfl rfl rfl (wr_areturn rfl h5)))))))))))
/-- java/util/ArrayDeque.size()I : labels [] -/
theorem k486 {d : Nat} {x0 : Nat} {σ : cm_S} {Q : cm_O → Prop} (hd : 2 ≤ d) (h0 : cm_tg σ x0 = 26 ∧
100 < cm_tg σ (cm_R σ x0 0) ∧
wp_c (d - 1) 487 [.int (cm_I σ x0 2), .int (cm_I σ x0 1), .int (Int32.ofNat (cm_ln σ (cm_R σ x0 0)))] σ (qi fun r1 σ1 => Q (false, .int r1, σ1))) : wp_c d 486 [.ref x0] σ Q :=
  wc_in (by omega) rfl rfl (L := [.ref x0]) rfl (have hd : 1 ≤ d - 1 := (by omega); (wr_aload_n rfl rfl rfl (wr_gfI rfl rfl (by decide) ⟨by decide, by decide⟩ h0.1 (wr_aload_n rfl rfl rfl (wr_gfI rfl rfl (by decide) ⟨by decide, by decide⟩ h0.1 (wr_aload_n rfl rfl rfl (wr_gfR rfl rfl (by decide) h0.1 (wr_arraylength rfl rfl h0.2.1 (wr_invsi rfl hd rfl (fun _ => rfl) rfl rfl (wm_i h0.2.2 fun r1 σ1 h1 => (wr_ireturn rfl rfl h1)))))))))))
/-- java/util/ArrayDeque.sub(III)I : labels [] -/
theorem k487 {d : Nat} {x0 : Int32} {x1 : Int32} {x2 : Int32} {σ : cm_S} {Q : cm_O → Prop} (hd : 1 ≤ d) (h0 : ((x0 - x1) < (zi 0) → (Q (false, .int ((x0 - x1) + x2), σ))) ∧
(¬ (x0 - x1) < (zi 0) → (Q (false, .int (x0 - x1), σ)))) : wp_c d 487 [.int x0, .int x1, .int x2] σ Q :=
  wc_in (by omega) rfl rfl (L := [.int x0, .int x1, .int x2]) rfl ((wr_iload_n rfl rfl rfl (wr_iload_n rfl rfl rfl (wr_isub rfl rfl (wr_dup rfl rfl rfl (wr_istore_n rfl rfl rfl (L2 := [.int (x0 - x1), .int x1, .int x2]) rfl (wr_if_ge rfl rfl (cr_ii h0 (fun c1 h2 => (wr_iload_n rfl rfl rfl (wr_iload_n rfl rfl rfl (wr_iadd rfl rfl (wr_istore_n rfl rfl rfl (L2 := [.int ((x0 - x1) + x2), .int x1, .int x2]) rfl (wr_iload_n rfl rfl rfl (wr_ireturn rfl rfl h2))))))) (fun c3 h4 => (wr_iload_n rfl rfl rfl (wr_ireturn rfl rfl h4)))))))))))
/-- java/util/ArrayDeque.toArray()[Ljava/lang/Object; : labels [] -/
theorem k488 {d : Nat} {x0 : Nat} {σ : cm_S} {Q : cm_O → Prop} (hd : 2 ≤ d) (h0 : cm_tg σ x0 = 26 ∧
wp_c (d - 1) 489 [.ref x0, .ref 59] σ (qr fun r1 σ1 => Q (false, .ref r1, σ1))) : wp_c d 488 [.ref x0] σ Q :=
  wc_in (by omega) rfl rfl (L := [.ref x0]) rfl (have hd : 1 ≤ d - 1 := (by omega); (wr_aload_n rfl rfl rfl (wr_ldc rfl (w := .ref 59) rfl rfl (wr_invwr rfl hd rfl (fun _ => rfl) rfl (cr_dt rfl h0.1) rfl (wm_r h0.2 fun r1 σ1 h1 => (wr_areturn rfl h1))))))
/-- java/util/ArrayDeque.toArray(Ljava/lang/Class;)[Ljava/lang/Object; : labels [32] -/
theorem k489 {d : Nat} {x0 : Nat} {x1 : Nat} {σ : cm_S} {Q : cm_O → Prop} (hd : 2 ≤ d) (h0 : cm_tg σ x0 = 26 ∧
((cm_I σ x0 2) < (cm_I σ x0 1) → (100 < cm_tg σ (cm_R σ x0 0) ∧
wp_r (d - 1) 489 (32, [.ref x0, .ref x1, .ref (cm_R σ x0 0), .null, .int (cm_I σ x0 1), .int (cm_I σ x0 2), .null], [.int (Int32.ofNat (cm_ln σ (cm_R σ x0 0))), .int (cm_I σ x0 2)], σ) Q)) ∧
(¬ (cm_I σ x0 2) < (cm_I σ x0 1) → (wp_r (d - 1) 489 (32, [.ref x0, .ref x1, .ref (cm_R σ x0 0), .null, .int (cm_I σ x0 1), .int (cm_I σ x0 2), .null], [.int (zi 0), .int (cm_I σ x0 2)], σ) Q))) : wp_c d 489 [.ref x0, .ref x1] σ Q :=
  wc_in (by omega) rfl rfl (L := [.ref x0, .ref x1, .null, .null, .null, .null, .null]) rfl (have hd : 1 ≤ d - 1 := (by omega); (wr_aload_n rfl rfl rfl (wr_gfR rfl rfl (by decide) h0.1 (wr_astore_n rfl rfl rfl (L2 := [.ref x0, .ref x1, .ref (cm_R σ x0 0), .null, .null, .null, .null]) rfl (wr_aload_n rfl rfl rfl (wr_gfI rfl rfl (by decide) ⟨by decide, by decide⟩ h0.1 (wr_istore rfl rfl rfl (L2 := [.ref x0, .ref x1, .ref (cm_R σ x0 0), .null, .int (cm_I σ x0 1), .null, .null]) rfl (wr_aload_n rfl rfl rfl (wr_gfI rfl rfl (by decide) ⟨by decide, by decide⟩ h0.1 (wr_istore rfl rfl rfl (L2 := [.ref x0, .ref x1, .ref (cm_R σ x0 0), .null, .int (cm_I σ x0 1), .int (cm_I σ x0 2), .null]) rfl (wr_iload rfl rfl rfl (wr_iload rfl rfl rfl (wr_iload rfl rfl rfl (wr_icmp_gt rfl rfl (cr_ii h0.2 (fun c1 h2 => (wr_aload_n rfl rfl rfl (wr_arraylength rfl rfl h2.1 h2.2))) (fun c3 h4 => (wr_iconst rfl rfl (wr_goto rfl h4))))))))))))))))))
theorem k489_32 {d : Nat} {x0 : Nat} {x1 : Nat} {x2 : Nat} {x3 : Value} {x4 : Int32} {x5 : Int32} {x6 : Value} {s0 : Int32} {s1 : Int32} {σ : cm_S} {Q : cm_O → Prop} (hd : 1 ≤ d) (h0 : ((s0 + s1) < (zi 0) → (wp_c d 588 [.ref x2, .int (zi 0), .int ((s0 + s1) - x4), .ref x1] σ (qr fun r1 σ1 => 100 < cm_tg σ1 x2 ∧
cm_cw σ1 x2 r1 x4 (zi 0) ((Int32.ofNat (cm_ln σ1 x2)) - x4) (fun σ2 => ((s0 + s1) = x5 → (Q (false, .ref r1, σ2))) ∧
(¬ (s0 + s1) = x5 → (100 < cm_tg σ2 x2 ∧
cm_cw σ2 x2 r1 (zi 0) ((Int32.ofNat (cm_ln σ2 x2)) - x4) x5 (fun σ3 => Q (false, .ref r1, σ3)))))))) ∧
(¬ (s0 + s1) < (zi 0) → (wp_c d 588 [.ref x2, .int x4, .int (s0 + s1), .ref x1] σ (qr fun r4 σ4 => ((s0 + s1) = x5 → (Q (false, .ref r4, σ4))) ∧
(¬ (s0 + s1) = x5 → (100 < cm_tg σ4 x2 ∧
cm_cw σ4 x2 r4 (zi 0) ((Int32.ofNat (cm_ln σ4 x2)) - x4) x5 (fun σ5 => Q (false, .ref r4, σ5)))))))) : wp_r d 489 (32, [.ref x0, .ref x1, .ref x2, x3, .int x4, .int x5, x6], [.int s1, .int s0], σ) Q :=
  (wr_iadd rfl rfl (wr_dup rfl rfl rfl (wr_istore rfl rfl rfl (L2 := [.ref x0, .ref x1, .ref x2, x3, .int x4, .int x5, .int (s0 + s1)]) rfl (wr_if_lt rfl rfl (cr_ii h0 (fun c1 h2 => (wr_aload_n rfl rfl rfl (wr_iconst rfl rfl (wr_iload rfl rfl rfl (wr_iload rfl rfl rfl (wr_isub rfl rfl (wr_aload_n rfl rfl rfl (wr_invsr rfl hd rfl (fun _ => rfl) rfl rfl (wm_r h2 fun r1 σ1 h3 => (wr_astore_n rfl rfl rfl (L2 := [.ref x0, .ref x1, .ref x2, .ref r1, .int x4, .int x5, .int (s0 + s1)]) rfl (wr_aload_n rfl rfl rfl (wr_iload rfl rfl rfl (wr_aload_n rfl rfl rfl (wr_iconst rfl rfl (wr_aload_n rfl rfl rfl (wr_arraylength rfl rfl h3.1 (wr_iload rfl rfl rfl (wr_isub rfl rfl (wr_arraycopy rfl hd rfl rfl (h3.2.mono (fun σ2 h4 => (wr_iload rfl rfl rfl (wr_iload rfl rfl rfl (wr_icmp_eq rfl rfl (cr_ii h4 (fun c5 h6 => (wr_aload_n rfl rfl rfl (wr_areturn rfl h6))) (fun c7 h8 => (wr_aload_n rfl rfl rfl (wr_iconst rfl rfl (wr_aload_n rfl rfl rfl (wr_aload_n rfl rfl rfl (wr_arraylength rfl rfl h8.1 (wr_iload rfl rfl rfl (wr_isub rfl rfl (wr_iload rfl rfl rfl (wr_arraycopy rfl hd rfl rfl (h8.2.mono (fun σ3 h9 => (wr_aload_n rfl rfl rfl (wr_areturn rfl h9))))))))))))))))))))))))))))))))))))))) (fun c10 h11 => (wr_aload_n rfl rfl rfl (wr_iload rfl rfl rfl (wr_iload rfl rfl rfl (wr_aload_n rfl rfl rfl (wr_invsr rfl hd rfl (fun _ => rfl) rfl rfl (wm_r h11 fun r4 σ4 h12 => (wr_astore_n rfl rfl rfl (L2 := [.ref x0, .ref x1, .ref x2, .ref r4, .int x4, .int x5, .int (s0 + s1)]) rfl (wr_goto rfl (wr_iload rfl rfl rfl (wr_iload rfl rfl rfl (wr_icmp_eq rfl rfl (cr_ii h12 (fun c13 h14 => (wr_aload_n rfl rfl rfl (wr_areturn rfl h14))) (fun c15 h16 => (wr_aload_n rfl rfl rfl (wr_iconst rfl rfl (wr_aload_n rfl rfl rfl (wr_aload_n rfl rfl rfl (wr_arraylength rfl rfl h16.1 (wr_iload rfl rfl rfl (wr_isub rfl rfl (wr_iload rfl rfl rfl (wr_arraycopy rfl hd rfl rfl (h16.2.mono (fun σ5 h17 => (wr_aload_n rfl rfl rfl (wr_areturn rfl h17))))))))))))))))))))))))))))))))
/-- java/util/BitSet.cardinality()I : labels [4] -/
theorem k490 {d : Nat} {x0 : Nat} {σ : cm_S} {Q : cm_O → Prop} (hd : 2 ≤ d) (h0 : wp_r (d - 1) 490 (4, [.ref x0, .int (zi 0), .int (zi 0)], [], σ) Q) : wp_c d 490 [.ref x0] σ Q :=
  wc_in (by omega) rfl rfl (L := [.ref x0, .null, .null]) rfl (have hd : 1 ≤ d - 1 := (by omega); (wr_iconst rfl rfl (wr_istore_n rfl rfl rfl (L2 := [.ref x0, .int (zi 0), .null]) rfl (wr_iconst rfl rfl (wr_istore_n rfl rfl rfl (L2 := [.ref x0, .int (zi 0), .int (zi 0)]) rfl h0)))))
theorem k490_4 {d : Nat} {x0 : Nat} {x1 : Int32} {x2 : Int32} {σ : cm_S} {Q : cm_O → Prop} (hd : 1 ≤ d) (h0 : cm_tg σ x0 = 27 ∧
(x2 < (cm_I σ x0 1) → (cm_tg σ (cm_R σ x0 0) = 102 ∧
cm_in x2 (cm_ln σ (cm_R σ x0 0)) = true ∧
wp_c d 606 [.long (cm_L σ (cm_R σ x0 0) (cm_ix x2))] σ (qi fun r1 σ1 => wp_r d 490 (4, [.ref x0, .int (x1 + r1), .int (x2 + zi 1)], [], σ1) Q))) ∧
(¬ x2 < (cm_I σ x0 1) → (Q (false, .int x1, σ)))) : wp_r d 490 (4, [.ref x0, .int x1, .int x2], [], σ) Q :=
  (wr_iload_n rfl rfl rfl (wr_aload_n rfl rfl rfl (wr_gfI rfl rfl (by decide) ⟨by decide, by decide⟩ h0.1 (wr_icmp_ge rfl rfl (cr_ii h0.2 (fun c1 h2 => (wr_iload_n rfl rfl rfl (wr_aload_n rfl rfl rfl (wr_gfR rfl rfl (by decide) h0.1 (wr_iload_n rfl rfl rfl (wr_laload rfl rfl h2.1 h2.2.1 (wr_invsi rfl hd rfl (fun _ => rfl) rfl rfl (wm_i h2.2.2 fun r1 σ1 h3 => (wr_iadd rfl rfl (wr_istore_n rfl rfl rfl (L2 := [.ref x0, .int (x1 + r1), .int x2]) rfl (wr_iinc rfl rfl rfl (L2 := [.ref x0, .int (x1 + r1), .int (x2 + zi 1)]) rfl (wr_goto rfl h3)))))))))))) (fun c4 h5 => (wr_iload_n rfl rfl rfl (wr_ireturn rfl rfl h5))))))))
/-- java/util/BitSet.checkInvariants()V : labels [37] -/
theorem k491 {d : Nat} {x0 : Nat} {σ : cm_S} {Q : cm_O → Prop} (hd : 1 ≤ d) (h0 : wp_r (d - 1) 491 (37, [.ref x0], [], σ) Q) : wp_c d 491 [.ref x0] σ Q :=
  wc_in (by omega) rfl rfl (L := [.ref x0]) rfl ((wr_getstatic rfl (w := .int (zi 1)) rfl rfl (wr_if_ne rfl rfl (cr_F (by decide) h0))))
theorem k491_37 {d : Nat} {x0 : Nat} {σ : cm_S} {Q : cm_O → Prop} (h0 : Q (false, .int 0, σ)) : wp_r d 491 (37, [.ref x0], [], σ) Q :=
  (wr_getstatic rfl (w := .int (zi 1)) rfl rfl (wr_if_ne rfl rfl (cr_F (by decide) (wr_getstatic rfl (w := .int (zi 1)) rfl rfl (wr_if_ne rfl rfl (cr_F (by decide) (wr_return rfl h0)))))))
/-- java/util/BitSet.clear(I)V : labels [] -/
theorem k492 {d : Nat} {x0 : Nat} {x1 : Int32} {σ : cm_S} {Q : cm_O → Prop} (hd : 2 ≤ d) (h0 : (x1 < (zi 0) → (False)) ∧
(¬ x1 < (zi 0) → (wp_c (d - 1) 504 [.int x1] σ (qi fun r1 σ1 => cm_tg σ1 x0 = 27 ∧
(r1 < (cm_I σ1 x0 1) → (cm_tg σ1 (cm_R σ1 x0 0) = 102 ∧
cm_in r1 (cm_ln σ1 (cm_R σ1 x0 0)) = true ∧
cm_K cp ≤ (cm_R σ1 x0 0) ∧
(∀ σ2, σ2 = cm_pL σ1 (cm_R σ1 x0 0) (cm_ix r1) ((cm_L σ1 (cm_R σ1 x0 0) (cm_ix r1)) &&& (((zl 1) <<< (x1.toInt64 &&& 63)) ^^^ (zl (-1)))) → 
wp_c (d - 1) 502 [.ref x0] σ2 (qv fun σ3 => cm_tg σ3 x0 = 27 ∧
wp_c (d - 1) 491 [.ref x0] σ3 (qv fun σ4 => Q (false, .int 0, σ4)))))) ∧
(¬ r1 < (cm_I σ1 x0 1) → (Q (false, .int 0, σ1))))))) : wp_c d 492 [.ref x0, .int x1] σ Q :=
  wc_in (by omega) rfl rfl (L := [.ref x0, .int x1, .null]) rfl (have hd : 1 ≤ d - 1 := (by omega); (wr_iload_n rfl rfl rfl (wr_if_ge rfl rfl (cr_ii h0 (fun c1 h2 => (False.elim h2)) (fun c3 h4 => (wr_iload_n rfl rfl rfl (wr_invsi rfl hd rfl (fun _ => rfl) rfl rfl (wm_i h4 fun r1 σ1 h5 => (wr_istore_n rfl rfl rfl (L2 := [.ref x0, .int x1, .int r1]) rfl (wr_iload_n rfl rfl rfl (wr_aload_n rfl rfl rfl (wr_gfI rfl rfl (by decide) ⟨by decide, by decide⟩ h5.1 (wr_icmp_lt rfl rfl (cr_ii h5.2 (fun c6 h7 => (wr_aload_n rfl rfl rfl (wr_gfR rfl rfl (by decide) h5.1 (wr_iload_n rfl rfl rfl (wr_dup2 rfl rfl rfl rfl (wr_laload rfl rfl h7.1 h7.2.1 (wr_lconst (p := zl 1) rfl rfl rfl (wr_iload_n rfl rfl rfl (wr_lshl rfl rfl (wr_ldc2_w rfl (w := .long (zl (-1))) rfl rfl (wr_lxor rfl rfl (wr_land rfl rfl (wr_lastore rfl rfl h7.1 h7.2.1 h7.2.2.1 (wr_aload_n rfl rfl rfl (wr_invwv rfl hd rfl (fun _ => rfl) rfl (cr_dt rfl h5.1) rfl (wm_v (h7.2.2.2 _ rfl) fun σ3 h8 => (wr_aload_n rfl rfl rfl (wr_invwv rfl hd rfl (fun _ => rfl) rfl (cr_dt rfl h8.1) rfl (wm_v h8.2 fun σ4 h9 => (wr_return rfl h9)))))))))))))))))))) (fun c10 h11 => (wr_return rfl h11))))))))))))))))
/-- java/util/BitSet.clear()V : labels [0] -/
-- loop at 0
theorem k493 {d : Nat} {x0 : Nat} {σ : cm_S} {Q : cm_O → Prop} (hd : 1 ≤ d) (h0 : cm_tg σ x0 = 27 ∧
((zi 0) < (cm_I σ x0 1) → (cm_K cp ≤ x0 ∧
(∀ σ1, σ1 = cm_pI σ x0 1 ((cm_I σ x0 1) - (zi 1)) → 
cm_tg σ1 (cm_R σ x0 0) = 102 ∧
cm_in ((cm_I σ x0 1) - (zi 1)) (cm_ln σ1 (cm_R σ x0 0)) = true ∧
cm_K cp ≤ (cm_R σ x0 0) ∧
(∀ σ2, σ2 = cm_pL σ1 (cm_R σ x0 0) (cm_ix ((cm_I σ x0 1) - (zi 1))) (zl 0) → 
wp_r (d - 1) 493 (0, [.ref x0], [], σ2) Q)))) ∧
(¬ (zi 0) < (cm_I σ x0 1) → (Q (false, .int 0, σ)))) : wp_c d 493 [.ref x0] σ Q :=
  wc_in (by omega) rfl rfl (L := [.ref x0]) rfl ((wr_aload_n rfl rfl rfl (wr_gfI rfl rfl (by decide) ⟨by decide, by decide⟩ h0.1 (wr_if_le rfl rfl (cr_ii h0.2 (fun c1 h2 => (wr_aload_n rfl rfl rfl (wr_gfR rfl rfl (by decide) h0.1 (wr_aload_n rfl rfl rfl (wr_dup rfl rfl rfl (wr_gfI rfl rfl (by decide) ⟨by decide, by decide⟩ h0.1 (wr_iconst rfl rfl (wr_isub rfl rfl (wr_dup_x1 rfl rfl rfl rfl (wr_pfI rfl rfl (by decide) ⟨by decide, by decide⟩ h0.1 h2.1 rfl (wr_lconst (p := zl 0) rfl rfl rfl (wr_lastore rfl rfl (h2.2 _ rfl).1 (h2.2 _ rfl).2.1 (h2.2 _ rfl).2.2.1 (wr_goto rfl ((h2.2 _ rfl).2.2.2 _ rfl)))))))))))))) (fun c3 h4 => (wr_return rfl h4)))))))
/-- java/util/BitSet.ensureCapacity(I)V : labels [] -/
theorem k494 {d : Nat} {x0 : Nat} {x1 : Int32} {σ : cm_S} {Q : cm_O → Prop} (hd : 2 ≤ d) (h0 : cm_tg σ x0 = 27 ∧
100 < cm_tg σ (cm_R σ x0 0) ∧
((Int32.ofNat (cm_ln σ (cm_R σ x0 0))) < x1 → (wp_c (d - 1) 579 [.int ((zi 2) * (Int32.ofNat (cm_ln σ (cm_R σ x0 0)))), .int x1] σ (qi fun r1 σ1 => cm_tg σ1 x0 = 27 ∧
wp_c (d - 1) 591 [.ref (cm_R σ1 x0 0), .int r1] σ1 (qr fun r2 σ2 => cm_tg σ2 x0 = 27 ∧
cm_K cp ≤ x0 ∧
(∀ σ3, σ3 = cm_pR σ2 x0 0 r2 → 
∀ σ4, σ4 = cm_pI σ3 x0 2 (zi 0) → 
Q (false, .int 0, σ4)))))) ∧
(¬ (Int32.ofNat (cm_ln σ (cm_R σ x0 0))) < x1 → (Q (false, .int 0, σ)))) : wp_c d 494 [.ref x0, .int x1] σ Q :=
  wc_in (by omega) rfl rfl (L := [.ref x0, .int x1, .null]) rfl (have hd : 1 ≤ d - 1 := (by omega); (wr_aload_n rfl rfl rfl (wr_gfR rfl rfl (by decide) h0.1 (wr_arraylength rfl rfl h0.2.1 (wr_iload_n rfl rfl rfl (wr_icmp_ge rfl rfl (cr_ii h0.2.2 (fun c1 h2 => (wr_iconst rfl rfl (wr_aload_n rfl rfl rfl (wr_gfR rfl rfl (by decide) h0.1 (wr_arraylength rfl rfl h0.2.1 (wr_imul rfl rfl (wr_iload_n rfl rfl rfl (wr_invsi rfl hd rfl (fun _ => rfl) rfl rfl (wm_i h2 fun r1 σ1 h3 => (wr_istore_n rfl rfl rfl (L2 := [.ref x0, .int x1, .int r1]) rfl (wr_aload_n rfl rfl rfl (wr_aload_n rfl rfl rfl (wr_gfR rfl rfl (by decide) h3.1 (wr_iload_n rfl rfl rfl (wr_invsr rfl hd rfl (fun _ => rfl) rfl rfl (wm_r h3.2 fun r2 σ2 h4 => (wr_pfR rfl rfl (by decide) h4.1 h4.2.1 (wr_aload_n rfl rfl rfl (wr_iconst rfl rfl (wr_pfI rfl rfl (by decide) ⟨by decide, by decide⟩ h4.1 h4.2.1 (by decide) (wr_return rfl ((h4.2.2 _ rfl) _ rfl)))))))))))))))))))))) (fun c5 h6 => (wr_return rfl h6)))))))))
/-- java/util/BitSet.expandTo(I)V : labels [] -/
theorem k495 {d : Nat} {x0 : Nat} {x1 : Int32} {σ : cm_S} {Q : cm_O → Prop} (hd : 2 ≤ d) (h0 : cm_tg σ x0 = 27 ∧
((cm_I σ x0 1) < (x1 + (zi 1)) → (wp_c (d - 1) 494 [.ref x0, .int (x1 + (zi 1))] σ (qv fun σ1 => cm_tg σ1 x0 = 27 ∧
cm_K cp ≤ x0 ∧
(∀ σ2, σ2 = cm_pI σ1 x0 1 (x1 + (zi 1)) → 
Q (false, .int 0, σ2))))) ∧
(¬ (cm_I σ x0 1) < (x1 + (zi 1)) → (Q (false, .int 0, σ)))) : wp_c d 495 [.ref x0, .int x1] σ Q :=
  wc_in (by omega) rfl rfl (L := [.ref x0, .int x1, .null]) rfl (have hd : 1 ≤ d - 1 := (by omega); (wr_iload_n rfl rfl rfl (wr_iconst rfl rfl (wr_iadd rfl rfl (wr_istore_n rfl rfl rfl (L2 := [.ref x0, .int x1, .int (x1 + (zi 1))]) rfl (wr_aload_n rfl rfl rfl (wr_gfI rfl rfl (by decide) ⟨by decide, by decide⟩ h0.1 (wr_iload_n rfl rfl rfl (wr_icmp_ge rfl rfl (cr_ii h0.2 (fun c1 h2 => (wr_aload_n rfl rfl rfl (wr_iload_n rfl rfl rfl (wr_invwv rfl hd rfl (fun _ => rfl) rfl (cr_dt rfl h0.1) rfl (wm_v h2 fun σ1 h3 => (wr_aload_n rfl rfl rfl (wr_iload_n rfl rfl rfl (wr_pfI rfl rfl (by decide) ⟨by decide, by decide⟩ h3.1 h3.2.1 rfl (wr_return rfl (h3.2.2 _ rfl)))))))))) (fun c4 h5 => (wr_return rfl h5))))))))))))
/-- java/util/BitSet.get(I)Z : labels [] -/
theorem k496 {d : Nat} {x0 : Nat} {x1 : Int32} {σ : cm_S} {Q : cm_O → Prop} (hd : 2 ≤ d) (h0 : (x1 < (zi 0) → (False)) ∧
(¬ x1 < (zi 0) → (cm_tg σ x0 = 27 ∧
wp_c (d - 1) 491 [.ref x0] σ (qv fun σ1 => wp_c (d - 1) 504 [.int x1] σ1 (qi fun r2 σ2 => cm_tg σ2 x0 = 27 ∧
(r2 < (cm_I σ2 x0 1) → (cm_tg σ2 (cm_R σ2 x0 0) = 102 ∧
cm_in r2 (cm_ln σ2 (cm_R σ2 x0 0)) = true ∧
(((cm_L σ2 (cm_R σ2 x0 0) (cm_ix r2)) &&& ((zl 1) <<< (x1.toInt64 &&& 63))) = (zl 0) → (Q (false, .int (zi 0), σ2))) ∧
(¬ ((cm_L σ2 (cm_R σ2 x0 0) (cm_ix r2)) &&& ((zl 1) <<< (x1.toInt64 &&& 63))) = (zl 0) → (Q (false, .int (zi 1), σ2))))) ∧
(¬ r2 < (cm_I σ2 x0 1) → (Q (false, .int (zi 0), σ2)))))))) : wp_c d 496 [.ref x0, .int x1] σ Q :=
  wc_in (by omega) rfl rfl (L := [.ref x0, .int x1, .null]) rfl (have hd : 1 ≤ d - 1 := (by omega); (wr_iload_n rfl rfl rfl (wr_if_ge rfl rfl (cr_ii h0 (fun c1 h2 => (False.elim h2)) (fun c3 h4 => (wr_aload_n rfl rfl rfl (wr_invwv rfl hd rfl (fun _ => rfl) rfl (cr_dt rfl h4.1) rfl (wm_v h4.2 fun σ1 h5 => (wr_iload_n rfl rfl rfl (wr_invsi rfl hd rfl (fun _ => rfl) rfl rfl (wm_i h5 fun r2 σ2 h6 => (wr_istore_n rfl rfl rfl (L2 := [.ref x0, .int x1, .int r2]) rfl (wr_iload_n rfl rfl rfl (wr_aload_n rfl rfl rfl (wr_gfI rfl rfl (by decide) ⟨by decide, by decide⟩ h6.1 (wr_icmp_ge rfl rfl (cr_ii h6.2 (fun c7 h8 => (wr_aload_n rfl rfl rfl (wr_gfR rfl rfl (by decide) h6.1 (wr_iload_n rfl rfl rfl (wr_laload rfl rfl h8.1 h8.2.1 (wr_lconst (p := zl 1) rfl rfl rfl (wr_iload_n rfl rfl rfl (wr_lshl rfl rfl (wr_land rfl rfl (wr_lconst (p := zl 0) rfl rfl rfl (wr_lcmp_eq rfl rfl rfl rfl (cr_ii h8.2.2 (fun c9 h10 => (wr_iconst rfl rfl (wr_ireturn rfl (by decide) h10))) (fun c11 h12 => (wr_iconst rfl rfl (wr_goto rfl (wr_ireturn rfl (by decide) h12)))))))))))))))) (fun c13 h14 => (wr_iconst rfl rfl (wr_ireturn rfl (by decide) h14))))))))))))))))))))
/-- java/util/BitSet.<init>()V : labels [] -/
theorem k497 {d : Nat} {x0 : Nat} {σ : cm_S} {Q : cm_O → Prop} (hd : 2 ≤ d) (h0 : cm_tg σ x0 ≠ 0 ∧
cm_tg σ x0 = 27 ∧
cm_K cp ≤ x0 ∧
(∀ σ1, σ1 = cm_pI σ x0 1 (zi 0) → 
∀ σ2, σ2 = cm_pI σ1 x0 2 (zi 0) → 
wp_c (d - 1) 498 [.ref x0, .int (zi 64)] σ2 (qv fun σ3 => cm_tg σ3 x0 = 27 ∧
(∀ σ4, σ4 = cm_pI σ3 x0 2 (zi 0) → 
Q (false, .int 0, σ4))))) : wp_c d 497 [.ref x0] σ Q :=
  wc_in (by omega) rfl rfl (L := [.ref x0]) rfl (have hd : 1 ≤ d - 1 := (by omega); (wr_aload_n rfl rfl rfl (wr_objinit rfl hd rfl rfl h0.1 (wr_aload_n rfl rfl rfl (wr_iconst rfl rfl (wr_pfI rfl rfl (by decide) ⟨by decide, by decide⟩ h0.2.1 h0.2.2.1 rfl (wr_aload_n rfl rfl rfl (wr_iconst rfl rfl (wr_pfI rfl rfl (by decide) ⟨by decide, by decide⟩ h0.2.1 h0.2.2.1 (by decide) (wr_aload_n rfl rfl rfl (wr_bipush (a := zi 64) rfl rfl rfl (wr_invwv rfl hd rfl (fun _ => rfl) rfl (cr_dt rfl h0.2.1) rfl (wm_v ((h0.2.2.2 _ rfl) _ rfl) fun σ3 h1 => (wr_aload_n rfl rfl rfl (wr_iconst rfl rfl (wr_pfI rfl rfl (by decide) ⟨by decide, by decide⟩ h1.1 h0.2.2.1 (by decide) (wr_return rfl (h1.2 _ rfl))))))))))))))))))
/-- java/util/BitSet.initWords(I)V : labels [] -/
theorem k498 {d : Nat} {x0 : Nat} {x1 : Int32} {σ : cm_S} {Q : cm_O → Prop} (hd : 2 ≤ d) (h0 : wp_c (d - 1) 504 [.int (x1 - (zi 1))] σ (qi fun r1 σ1 => (0 ≤ (r1 + (zi 1)).toInt ∧ (r1 + (zi 1)).toInt ≤ 60000000) ∧
(∀ σ2, σ2 = cm_al σ1 102 (cm_ix (r1 + (zi 1))) → 
cm_tg σ2 x0 = 27 ∧
cm_K cp ≤ x0 ∧
(∀ σ3, σ3 = cm_pR σ2 x0 0 (cm_nx σ1) → 
Q (false, .int 0, σ3))))) : wp_c d 498 [.ref x0, .int x1] σ Q :=
  wc_in (by omega) rfl rfl (L := [.ref x0, .int x1]) rfl (have hd : 1 ≤ d - 1 := (by omega); (wr_aload_n rfl rfl rfl (wr_iload_n rfl rfl rfl (wr_iconst rfl rfl (wr_isub rfl rfl (wr_invsi rfl hd rfl (fun _ => rfl) rfl rfl (wm_i h0 fun r1 σ1 h1 => (wr_iconst rfl rfl (wr_iadd rfl rfl (wr_newarray rfl rfl h1.1 (wr_pfR rfl rfl (by decide) (h1.2 _ rfl).1 (h1.2 _ rfl).2.1 (wr_return rfl ((h1.2 _ rfl).2.2 _ rfl)))))))))))))
/-- java/util/BitSet.<init>(I)V : labels [] -/
theorem k499 {d : Nat} {x0 : Nat} {x1 : Int32} {σ : cm_S} {Q : cm_O → Prop} (hd : 2 ≤ d) (h0 : cm_tg σ x0 ≠ 0 ∧
cm_tg σ x0 = 27 ∧
cm_K cp ≤ x0 ∧
(∀ σ1, σ1 = cm_pI σ x0 1 (zi 0) → 
∀ σ2, σ2 = cm_pI σ1 x0 2 (zi 0) → 
(x1 < (zi 0) → (False)) ∧
(¬ x1 < (zi 0) → (wp_c (d - 1) 498 [.ref x0, .int x1] σ2 (qv fun σ3 => cm_tg σ3 x0 = 27 ∧
(∀ σ4, σ4 = cm_pI σ3 x0 2 (zi 1) → 
Q (false, .int 0, σ4))))))) : wp_c d 499 [.ref x0, .int x1] σ Q :=
  wc_in (by omega) rfl rfl (L := [.ref x0, .int x1]) rfl (have hd : 1 ≤ d - 1 := (by omega); (wr_aload_n rfl rfl rfl (wr_objinit rfl hd rfl rfl h0.1 (wr_aload_n rfl rfl rfl (wr_iconst rfl rfl (wr_pfI rfl rfl (by decide) ⟨by decide, by decide⟩ h0.2.1 h0.2.2.1 rfl (wr_aload_n rfl rfl rfl (wr_iconst rfl rfl (wr_pfI rfl rfl (by decide) ⟨by decide, by decide⟩ h0.2.1 h0.2.2.1 (by decide) (wr_iload_n rfl rfl rfl (wr_if_ge rfl rfl (cr_ii ((h0.2.2.2 _ rfl) _ rfl) (fun c1 h2 => (False.elim h2)) (fun c3 h4 => (wr_aload_n rfl rfl rfl (wr_iload_n rfl rfl rfl (wr_invwv rfl hd rfl (fun _ => rfl) rfl (cr_dt rfl h0.2.1) rfl (wm_v h4 fun σ3 h5 => (wr_aload_n rfl rfl rfl (wr_iconst rfl rfl (wr_pfI rfl rfl (by decide) ⟨by decide, by decide⟩ h5.1 h0.2.2.1 (by decide) (wr_return rfl (h5.2 _ rfl))))))))))))))))))))))
/-- java/util/BitSet.nextSetBit(I)I : labels [63] -/
theorem k500 {d : Nat} {x0 : Nat} {x1 : Int32} {σ : cm_S} {Q : cm_O → Prop} (hd : 2 ≤ d) (h0 : (x1 < (zi 0) → (False)) ∧
(¬ x1 < (zi 0) → (cm_tg σ x0 = 27 ∧
wp_c (d - 1) 491 [.ref x0] σ (qv fun σ1 => wp_c (d - 1) 504 [.int x1] σ1 (qi fun r2 σ2 => cm_tg σ2 x0 = 27 ∧
(r2 < (cm_I σ2 x0 1) → (cm_tg σ2 (cm_R σ2 x0 0) = 102 ∧
cm_in r2 (cm_ln σ2 (cm_R σ2 x0 0)) = true ∧
wp_r (d - 1) 500 (63, [.ref x0, .int x1, .int r2, .long ((cm_L σ2 (cm_R σ2 x0 0) (cm_ix r2)) &&& ((zl (-1)) <<< (x1.toInt64 &&& 63))), .retAddr 0], [], σ2) Q)) ∧
(¬ r2 < (cm_I σ2 x0 1) → (Q (false, .int (zi (-1)), σ2)))))))) : wp_c d 500 [.ref x0, .int x1] σ Q :=
  wc_in (by omega) rfl rfl (L := [.ref x0, .int x1, .null, .null, .null]) rfl (have hd : 1 ≤ d - 1 := (by omega); (wr_iload_n rfl rfl rfl (wr_if_ge rfl rfl (cr_ii h0 (fun c1 h2 => (False.elim h2)) (fun c3 h4 => (wr_aload_n rfl rfl rfl (wr_invwv rfl hd rfl (fun _ => rfl) rfl (cr_dt rfl h4.1) rfl (wm_v h4.2 fun σ1 h5 => (wr_iload_n rfl rfl rfl (wr_invsi rfl hd rfl (fun _ => rfl) rfl rfl (wm_i h5 fun r2 σ2 h6 => (wr_istore_n rfl rfl rfl (L2 := [.ref x0, .int x1, .int r2, .null, .null]) rfl (wr_iload_n rfl rfl rfl (wr_aload_n rfl rfl rfl (wr_gfI rfl rfl (by decide) ⟨by decide, by decide⟩ h6.1 (wr_icmp_lt rfl rfl (cr_ii h6.2 (fun c7 h8 => (wr_aload_n rfl rfl rfl (wr_gfR rfl rfl (by decide) h6.1 (wr_iload_n rfl rfl rfl (wr_laload rfl rfl h8.1 h8.2.1 (wr_ldc2_w rfl (w := .long (zl (-1))) rfl rfl (wr_iload_n rfl rfl rfl (wr_lshl rfl rfl (wr_land rfl rfl (wr_lstore_n rfl rfl rfl (L2 := [.ref x0, .int x1, .int r2, .long ((cm_L σ2 (cm_R σ2 x0 0) (cm_ix r2)) &&& ((zl (-1)) <<< (x1.toInt64 &&& 63))), .retAddr 0]) rfl h8.2.2)))))))))) (fun c9 h10 => (wr_iconst (k := -1) rfl rfl (wr_ireturn rfl rfl h10))))))))))))))))))))
theorem k500_63 {d : Nat} {x0 : Nat} {x1 : Int32} {x2 : Int32} {x3 : Int64} {σ : cm_S} {Q : cm_O → Prop} (hd : 1 ≤ d) (h0 : (x3 = (zl 0) → (cm_tg σ x0 = 27 ∧
((x2 + zi 1) = (cm_I σ x0 1) → (Q (false, .int (zi (-1)), σ))) ∧
(¬ (x2 + zi 1) = (cm_I σ x0 1) → (cm_tg σ (cm_R σ x0 0) = 102 ∧
cm_in (x2 + zi 1) (cm_ln σ (cm_R σ x0 0)) = true ∧
wp_r d 500 (63, [.ref x0, .int x1, .int (x2 + zi 1), .long (cm_L σ (cm_R σ x0 0) (cm_ix (x2 + zi 1))), .retAddr 0], [], σ) Q)))) ∧
(¬ x3 = (zl 0) → (wp_c d 608 [.long x3] σ (qi fun r1 σ1 => Q (false, .int ((x2 * (zi 64)) + r1), σ1))))) : wp_r d 500 (63, [.ref x0, .int x1, .int x2, .long x3, .retAddr 0], [], σ) Q :=
  (wr_lload_n rfl rfl rfl rfl (wr_lconst (p := zl 0) rfl rfl rfl (wr_lcmp_eq rfl rfl rfl rfl (cr_ii h0 (fun c1 h2 => (wr_iinc rfl rfl rfl (L2 := [.ref x0, .int x1, .int (x2 + zi 1), .long x3, .retAddr 0]) rfl (wr_iload_n rfl rfl rfl (wr_aload_n rfl rfl rfl (wr_gfI rfl rfl (by decide) ⟨by decide, by decide⟩ h2.1 (wr_icmp_ne rfl rfl (cr_ii h2.2 (fun c3 h4 => (wr_iconst (k := -1) rfl rfl (wr_ireturn rfl rfl h4))) (fun c5 h6 => (wr_aload_n rfl rfl rfl (wr_gfR rfl rfl (by decide) h2.1 (wr_iload_n rfl rfl rfl (wr_laload rfl rfl h6.1 h6.2.1 (wr_lstore_n rfl rfl rfl (L2 := [.ref x0, .int x1, .int (x2 + zi 1), .long (cm_L σ (cm_R σ x0 0) (cm_ix (x2 + zi 1))), .retAddr 0]) rfl (wr_goto rfl h6.2.2)))))))))))))) (fun c7 h8 => (wr_iload_n rfl rfl rfl (wr_bipush (a := zi 64) rfl rfl rfl (wr_imul rfl rfl (wr_lload_n rfl rfl rfl rfl (wr_invsi rfl hd rfl (fun _ => rfl) rfl rfl (wm_i h8 fun r1 σ1 h9 => (wr_iadd rfl rfl (wr_ireturn rfl rfl h9)))))))))))))
/-- java/util/BitSet.or(Ljava/util/BitSet;)V : labels [47] -/
theorem k501 {d : Nat} {x0 : Nat} {x1 : Nat} {σ : cm_S} {Q : cm_O → Prop} (hd : 2 ≤ d) (h0 : cm_ac x0 x1 ∧
(x0 = x1 → (Q (false, .int 0, σ))) ∧
(¬ x0 = x1 → (cm_tg σ x0 = 27 ∧
cm_tg σ x1 = 27 ∧
wp_c (d - 1) 581 [.int (cm_I σ x0 1), .int (cm_I σ x1 1)] σ (qi fun r1 σ1 => cm_tg σ1 x0 = 27 ∧
cm_tg σ1 x1 = 27 ∧
((cm_I σ1 x0 1) < (cm_I σ1 x1 1) → (wp_c (d - 1) 494 [.ref x0, .int (cm_I σ1 x1 1)] σ1 (qv fun σ2 => cm_tg σ2 x1 = 27 ∧
cm_tg σ2 x0 = 27 ∧
cm_K cp ≤ x0 ∧
(∀ σ3, σ3 = cm_pI σ2 x0 1 (cm_I σ2 x1 1) → 
wp_r (d - 1) 501 (47, [.ref x0, .ref x1, .int r1, .int (zi 0)], [], σ3) Q)))) ∧
(¬ (cm_I σ1 x0 1) < (cm_I σ1 x1 1) → (wp_r (d - 1) 501 (47, [.ref x0, .ref x1, .int r1, .int (zi 0)], [], σ1) Q)))))) : wp_c d 501 [.ref x0, .ref x1] σ Q :=
  wc_in (by omega) rfl rfl (L := [.ref x0, .ref x1, .null, .null]) rfl (have hd : 1 ≤ d - 1 := (by omega); (wr_aload_n rfl rfl rfl (wr_aload_n rfl rfl rfl (wr_acmp_ne rfl rfl h0.1 (cr_ii h0.2 (fun c1 h2 => (wr_return rfl h2)) (fun c3 h4 => (wr_aload_n rfl rfl rfl (wr_gfI rfl rfl (by decide) ⟨by decide, by decide⟩ h4.1 (wr_aload_n rfl rfl rfl (wr_gfI rfl rfl (by decide) ⟨by decide, by decide⟩ h4.2.1 (wr_invsi rfl hd rfl (fun _ => rfl) rfl rfl (wm_i h4.2.2 fun r1 σ1 h5 => (wr_istore_n rfl rfl rfl (L2 := [.ref x0, .ref x1, .int r1, .null]) rfl (wr_aload_n rfl rfl rfl (wr_gfI rfl rfl (by decide) ⟨by decide, by decide⟩ h5.1 (wr_aload_n rfl rfl rfl (wr_gfI rfl rfl (by decide) ⟨by decide, by decide⟩ h5.2.1 (wr_icmp_ge rfl rfl (cr_ii h5.2.2 (fun c6 h7 => (wr_aload_n rfl rfl rfl (wr_aload_n rfl rfl rfl (wr_gfI rfl rfl (by decide) ⟨by decide, by decide⟩ h5.2.1 (wr_invwv rfl hd rfl (fun _ => rfl) rfl (cr_dt rfl h5.1) rfl (wm_v h7 fun σ2 h8 => (wr_aload_n rfl rfl rfl (wr_aload_n rfl rfl rfl (wr_gfI rfl rfl (by decide) ⟨by decide, by decide⟩ h8.1 (wr_pfI rfl rfl (by decide) ⟨by decide, by decide⟩ h8.2.1 h8.2.2.1 rfl (wr_iconst rfl rfl (wr_istore_n rfl rfl rfl (L2 := [.ref x0, .ref x1, .int r1, .int (zi 0)]) rfl (h8.2.2.2 _ rfl))))))))))))) (fun c9 h10 => (wr_iconst rfl rfl (wr_istore_n rfl rfl rfl (L2 := [.ref x0, .ref x1, .int r1, .int (zi 0)]) rfl h10))))))))))))))))))))))
theorem k501_47 {d : Nat} {x0 : Nat} {x1 : Nat} {x2 : Int32} {x3 : Int32} {σ : cm_S} {Q : cm_O → Prop} (hd : 1 ≤ d) (h0 : (x3 < x2 → (cm_tg σ x0 = 27 ∧
cm_tg σ (cm_R σ x0 0) = 102 ∧
cm_in x3 (cm_ln σ (cm_R σ x0 0)) = true ∧
cm_tg σ x1 = 27 ∧
cm_tg σ (cm_R σ x1 0) = 102 ∧
cm_in x3 (cm_ln σ (cm_R σ x1 0)) = true ∧
cm_K cp ≤ (cm_R σ x0 0) ∧
(∀ σ1, σ1 = cm_pL σ (cm_R σ x0 0) (cm_ix x3) ((cm_L σ (cm_R σ x0 0) (cm_ix x3)) ||| (cm_L σ (cm_R σ x1 0) (cm_ix x3))) → 
wp_r d 501 (47, [.ref x0, .ref x1, .int x2, .int (x3 + zi 1)], [], σ1) Q))) ∧
(¬ x3 < x2 → (cm_tg σ x1 = 27 ∧
(x2 < (cm_I σ x1 1) → (cm_tg σ x0 = 27 ∧
cm_cw σ (cm_R σ x1 0) (cm_R σ x0 0) x2 x2 ((cm_I σ x0 1) - x2) (fun σ2 => cm_tg σ2 x0 = 27 ∧
wp_c d 491 [.ref x0] σ2 (qv fun σ3 => Q (false, .int 0, σ3))))) ∧
(¬ x2 < (cm_I σ x1 1) → (cm_tg σ x0 = 27 ∧
wp_c d 491 [.ref x0] σ (qv fun σ4 => Q (false, .int 0, σ4))))))) : wp_r d 501 (47, [.ref x0, .ref x1, .int x2, .int x3], [], σ) Q :=
  (wr_iload_n rfl rfl rfl (wr_iload_n rfl rfl rfl (wr_icmp_ge rfl rfl (cr_ii h0 (fun c1 h2 => (wr_aload_n rfl rfl rfl (wr_gfR rfl rfl (by decide) h2.1 (wr_iload_n rfl rfl rfl (wr_dup2 rfl rfl rfl rfl (wr_laload rfl rfl h2.2.1 h2.2.2.1 (wr_aload_n rfl rfl rfl (wr_gfR rfl rfl (by decide) h2.2.2.2.1 (wr_iload_n rfl rfl rfl (wr_laload rfl rfl h2.2.2.2.2.1 h2.2.2.2.2.2.1 (wr_lor rfl rfl (wr_lastore rfl rfl h2.2.1 h2.2.2.1 h2.2.2.2.2.2.2.1 (wr_iinc rfl rfl rfl (L2 := [.ref x0, .ref x1, .int x2, .int (x3 + zi 1)]) rfl (wr_goto rfl (h2.2.2.2.2.2.2.2 _ rfl))))))))))))))) (fun c3 h4 => (wr_iload_n rfl rfl rfl (wr_aload_n rfl rfl rfl (wr_gfI rfl rfl (by decide) ⟨by decide, by decide⟩ h4.1 (wr_icmp_ge rfl rfl (cr_ii h4.2 (fun c5 h6 => (wr_aload_n rfl rfl rfl (wr_gfR rfl rfl (by decide) h4.1 (wr_iload_n rfl rfl rfl (wr_aload_n rfl rfl rfl (wr_gfR rfl rfl (by decide) h6.1 (wr_iload_n rfl rfl rfl (wr_aload_n rfl rfl rfl (wr_gfI rfl rfl (by decide) ⟨by decide, by decide⟩ h6.1 (wr_iload_n rfl rfl rfl (wr_isub rfl rfl (wr_arraycopy rfl hd rfl rfl (h6.2.mono (fun σ2 h7 => (wr_aload_n rfl rfl rfl (wr_invwv rfl hd rfl (fun _ => rfl) rfl (cr_dt rfl h7.1) rfl (wm_v h7.2 fun σ3 h8 => (wr_return rfl h8)))))))))))))))))) (fun c9 h10 => (wr_aload_n rfl rfl rfl (wr_invwv rfl hd rfl (fun _ => rfl) rfl (cr_dt rfl h10.1) rfl (wm_v h10.2 fun σ4 h11 => (wr_return rfl h11)))))))))))))))
/-- java/util/BitSet.recalculateWordsInUse()V : labels [7] -/
theorem k502 {d : Nat} {x0 : Nat} {σ : cm_S} {Q : cm_O → Prop} (hd : 1 ≤ d) (h0 : cm_tg σ x0 = 27 ∧
wp_r (d - 1) 502 (7, [.ref x0, .int ((cm_I σ x0 1) - (zi 1))], [], σ) Q) : wp_c d 502 [.ref x0] σ Q :=
  wc_in (by omega) rfl rfl (L := [.ref x0, .null]) rfl ((wr_aload_n rfl rfl rfl (wr_gfI rfl rfl (by decide) ⟨by decide, by decide⟩ h0.1 (wr_iconst rfl rfl (wr_isub rfl rfl (wr_istore_n rfl rfl rfl (L2 := [.ref x0, .int ((cm_I σ x0 1) - (zi 1))]) rfl h0.2))))))
theorem k502_7 {d : Nat} {x0 : Nat} {x1 : Int32} {σ : cm_S} {Q : cm_O → Prop} (h0 : (x1 < (zi 0) → (cm_tg σ x0 = 27 ∧
cm_K cp ≤ x0 ∧
(∀ σ1, σ1 = cm_pI σ x0 1 (x1 + (zi 1)) → 
Q (false, .int 0, σ1)))) ∧
(¬ x1 < (zi 0) → (cm_tg σ x0 = 27 ∧
cm_tg σ (cm_R σ x0 0) = 102 ∧
cm_in x1 (cm_ln σ (cm_R σ x0 0)) = true ∧
((cm_L σ (cm_R σ x0 0) (cm_ix x1)) = (zl 0) → (wp_r d 502 (7, [.ref x0, .int (x1 + zi (-1))], [], σ) Q)) ∧
(¬ (cm_L σ (cm_R σ x0 0) (cm_ix x1)) = (zl 0) → (cm_K cp ≤ x0 ∧
(∀ σ2, σ2 = cm_pI σ x0 1 (x1 + (zi 1)) → 
Q (false, .int 0, σ2))))))) : wp_r d 502 (7, [.ref x0, .int x1], [], σ) Q :=
  (wr_iload_n rfl rfl rfl (wr_if_lt rfl rfl (cr_ii h0 (fun c1 h2 => (wr_aload_n rfl rfl rfl (wr_iload_n rfl rfl rfl (wr_iconst rfl rfl (wr_iadd rfl rfl (wr_pfI rfl rfl (by decide) ⟨by decide, by decide⟩ h2.1 h2.2.1 rfl (wr_return rfl (h2.2.2 _ rfl)))))))) (fun c3 h4 => (wr_aload_n rfl rfl rfl (wr_gfR rfl rfl (by decide) h4.1 (wr_iload_n rfl rfl rfl (wr_laload rfl rfl h4.2.1 h4.2.2.1 (wr_lconst (p := zl 0) rfl rfl rfl (wr_lcmp_eq rfl rfl rfl rfl (cr_ii h4.2.2.2 (fun c5 h6 => (wr_iinc rfl rfl rfl (L2 := [.ref x0, .int (x1 + zi (-1))]) rfl (wr_goto rfl h6))) (fun c7 h8 => (wr_goto rfl (wr_aload_n rfl rfl rfl (wr_iload_n rfl rfl rfl (wr_iconst rfl rfl (wr_iadd rfl rfl (wr_pfI rfl rfl (by decide) ⟨by decide, by decide⟩ h4.1 h8.1 rfl (wr_return rfl (h8.2 _ rfl))))))))))))))))))))
/-- java/util/BitSet.set(I)V : labels [] -/
theorem k503 {d : Nat} {x0 : Nat} {x1 : Int32} {σ : cm_S} {Q : cm_O → Prop} (hd : 2 ≤ d) (h0 : (x1 < (zi 0) → (False)) ∧
(¬ x1 < (zi 0) → (wp_c (d - 1) 504 [.int x1] σ (qi fun r1 σ1 => cm_tg σ1 x0 = 27 ∧
wp_c (d - 1) 495 [.ref x0, .int r1] σ1 (qv fun σ2 => cm_tg σ2 x0 = 27 ∧
cm_tg σ2 (cm_R σ2 x0 0) = 102 ∧
cm_in r1 (cm_ln σ2 (cm_R σ2 x0 0)) = true ∧
cm_K cp ≤ (cm_R σ2 x0 0) ∧
(∀ σ3, σ3 = cm_pL σ2 (cm_R σ2 x0 0) (cm_ix r1) ((cm_L σ2 (cm_R σ2 x0 0) (cm_ix r1)) ||| ((zl 1) <<< (x1.toInt64 &&& 63))) → 
wp_c (d - 1) 491 [.ref x0] σ3 (qv fun σ4 => Q (false, .int 0, σ4)))))))) : wp_c d 503 [.ref x0, .int x1] σ Q :=
  wc_in (by omega) rfl rfl (L := [.ref x0, .int x1, .null]) rfl (have hd : 1 ≤ d - 1 := (by omega); (wr_iload_n rfl rfl rfl (wr_if_ge rfl rfl (cr_ii h0 (fun c1 h2 => (False.elim h2)) (fun c3 h4 => (wr_iload_n rfl rfl rfl (wr_invsi rfl hd rfl (fun _ => rfl) rfl rfl (wm_i h4 fun r1 σ1 h5 => (wr_istore_n rfl rfl rfl (L2 := [.ref x0, .int x1, .int r1]) rfl (wr_aload_n rfl rfl rfl (wr_iload_n rfl rfl rfl (wr_invwv rfl hd rfl (fun _ => rfl) rfl (cr_dt rfl h5.1) rfl (wm_v h5.2 fun σ2 h6 => (wr_aload_n rfl rfl rfl (wr_gfR rfl rfl (by decide) h6.1 (wr_iload_n rfl rfl rfl (wr_dup2 rfl rfl rfl rfl (wr_laload rfl rfl h6.2.1 h6.2.2.1 (wr_lconst (p := zl 1) rfl rfl rfl (wr_iload_n rfl rfl rfl (wr_lshl rfl rfl (wr_lor rfl rfl (wr_lastore rfl rfl h6.2.1 h6.2.2.1 h6.2.2.2.1 (wr_aload_n rfl rfl rfl (wr_invwv rfl hd rfl (fun _ => rfl) rfl (cr_dt rfl h6.1) rfl (wm_v (h6.2.2.2.2 _ rfl) fun σ4 h7 => (wr_return rfl h7)))))))))))))))))))))))))))
/-- java/util/BitSet.wordIndex(I)I : labels [] -/
theorem k504 {d : Nat} {x0 : Int32} {σ : cm_S} {Q : cm_O → Prop} (hd : 1 ≤ d) (h0 : Q (false, .int (x0 >>> ((zi 6) &&& 31)), σ)) : wp_c d 504 [.int x0] σ Q :=
  wc_in (by omega) rfl rfl (L := [.int x0]) rfl ((wr_iload_n rfl rfl rfl (wr_bipush (a := zi 6) rfl rfl rfl (wr_ishr rfl rfl (wr_ireturn rfl rfl h0)))))
/-- java/lang/Enum.name()Ljava/lang/String; : labels [] -/
theorem k505 {d : Nat} {x0 : Nat} {σ : cm_S} {Q : cm_O → Prop} (hd : 1 ≤ d) (h0 : cm_tg σ x0 = 60 ∧
Q (false, .ref (cm_R σ x0 0), σ)) : wp_c d 505 [.ref x0] σ Q :=
  wc_in (by omega) rfl rfl (L := [.ref x0]) rfl ((wr_aload_n rfl rfl rfl (wr_gfR rfl rfl (by decide) h0.1 (wr_areturn rfl h0.2))))
/-- java/lang/Enum.ordinal()I : labels [] -/
theorem k506 {d : Nat} {x0 : Nat} {σ : cm_S} {Q : cm_O → Prop} (hd : 1 ≤ d) (h0 : cm_tg σ x0 = 60 ∧
Q (false, .int (cm_I σ x0 1), σ)) : wp_c d 506 [.ref x0] σ Q :=
  wc_in (by omega) rfl rfl (L := [.ref x0]) rfl ((wr_aload_n rfl rfl rfl (wr_gfI rfl rfl (by decide) ⟨by decide, by decide⟩ h0.1 (wr_ireturn rfl rfl h0.2))))
/-- java/lang/String.charAt(I)C : labels [] -/
theorem k507 {d : Nat} {x0 : Nat} {x1 : Int32} {σ : cm_S} {Q : cm_O → Prop} (hd : 2 ≤ d) (h0 : cm_tg σ x0 = 29 ∧
wp_c (d - 1) 519 [.ref x0] σ (qi fun r1 σ1 => (r1 = (zi 0) → (cm_tg σ1 x0 = 29 ∧
wp_c (d - 1) 529 [.ref (cm_R σ1 x0 0), .int x1] σ1 (qi fun r2 σ2 => cm_fit 5 r2 = true ∧ Q (false, .int r2, σ2)))) ∧
(¬ r1 = (zi 0) → (cm_tg σ1 x0 = 29 ∧
wp_c (d - 1) 522 [.ref (cm_R σ1 x0 0), .int x1] σ1 (qi fun r3 σ3 => cm_fit 5 r3 = true ∧ Q (false, .int r3, σ3)))))) : wp_c d 507 [.ref x0, .int x1] σ Q :=
  wc_in (by omega) rfl rfl (L := [.ref x0, .int x1]) rfl (have hd : 1 ≤ d - 1 := (by omega); (wr_aload_n rfl rfl rfl (wr_invwi rfl hd rfl (fun _ => rfl) rfl (cr_dt rfl h0.1) rfl (wm_i h0.2 fun r1 σ1 h1 => (wr_if_eq rfl rfl (cr_ii h1 (fun c2 h3 => (wr_aload_n rfl rfl rfl (wr_gfR rfl rfl (by decide) h3.1 (wr_iload_n rfl rfl rfl (wr_invsi rfl hd rfl (fun _ => rfl) rfl rfl (wm_i h3.2 fun r2 σ2 h4 => (wr_ireturn rfl h4.1 h4.2))))))) (fun c5 h6 => (wr_aload_n rfl rfl rfl (wr_gfR rfl rfl (by decide) h6.1 (wr_iload_n rfl rfl rfl (wr_invsi rfl hd rfl (fun _ => rfl) rfl rfl (wm_i h6.2 fun r3 σ3 h7 => (wr_ireturn rfl h7.1 h7.2)))))))))))))
/-- java/lang/String.checkBoundsBeginEnd(III)V : labels [] -/
theorem k508 {d : Nat} {x0 : Int32} {x1 : Int32} {x2 : Int32} {σ : cm_S} {Q : cm_O → Prop} (hd : 2 ≤ d) (h0 : False) : wp_c d 508 [.int x0, .int x1, .int x2] σ Q :=
  wc_in (by omega) rfl rfl (L := [.int x0, .int x1, .int x2]) rfl (have hd : 1 ≤ d - 1 := (by omega); (wr_iload_n rfl rfl rfl (wr_iload_n rfl rfl rfl (wr_iload_n rfl rfl rfl (False.elim h0)))))
/-- java/lang/String.checkBoundsOffCount(III)I : labels [] -/
theorem k509 {d : Nat} {x0 : Int32} {x1 : Int32} {x2 : Int32} {σ : cm_S} {Q : cm_O → Prop} (hd : 2 ≤ d) (h0 : False) : wp_c d 509 [.int x0, .int x1, .int x2] σ Q :=
  wc_in (by omega) rfl rfl (L := [.int x0, .int x1, .int x2]) rfl (have hd : 1 ≤ d - 1 := (by omega); (wr_iload_n rfl rfl rfl (wr_iload_n rfl rfl rfl (wr_iload_n rfl rfl rfl (False.elim h0)))))
/-- java/lang/String.checkIndex(II)V : labels [] -/
theorem k510 {d : Nat} {x0 : Int32} {x1 : Int32} {σ : cm_S} {Q : cm_O → Prop} (hd : 2 ≤ d) (h0 : wp_c (d - 1) 528 [.int x0, .int x1, .ref 0] σ (fun o => o = (false, .int x0, σ)) ∧
wp_c (d - 1) 528 [.int x0, .int x1, .ref 321] σ (fun o => o = (false, .int x0, σ)) ∧
Q (false, .int 0, σ)) : wp_c d 510 [.int x0, .int x1] σ Q :=
  wc_in (by omega) rfl rfl (L := [.int x0, .int x1]) rfl (have hd : 1 ≤ d - 1 := (by omega); (wr_iload_n rfl rfl rfl (wr_iload_n rfl rfl rfl (wr_sio rfl hd rfl rfl rfl rfl h0.1 h0.2.1 (wr_pop rfl rfl rfl (wr_return rfl h0.2.2))))))
/-- java/lang/String.coder()B : labels [] -/
theorem k511 {d : Nat} {x0 : Nat} {σ : cm_S} {Q : cm_O → Prop} (hd : 1 ≤ d) (h0 : cm_tg σ x0 = 29 ∧
cm_fit 4 (cm_I σ x0 1) = true ∧ Q (false, .int (cm_I σ x0 1), σ)) : wp_c d 511 [.ref x0] σ Q :=
  wc_in (by omega) rfl rfl (L := [.ref x0]) rfl ((wr_getstatic rfl (w := .int (zi 1)) rfl rfl (wr_if_eq rfl rfl (cr_F (by decide) (wr_aload_n rfl rfl rfl (wr_gfI rfl rfl (by decide) ⟨by decide, by decide⟩ h0.1 (wr_goto rfl (wr_ireturn rfl h0.2.1 h0.2.2))))))))
/-- java/lang/String.equals(Ljava/lang/Object;)Z : labels [] -/
theorem k512 {d : Nat} {x0 : Nat} {x1 : Nat} {σ : cm_S} {Q : cm_O → Prop} (hd : 2 ≤ d) (h0 : cm_ac x0 x1 ∧
(x0 = x1 → (Q (false, .int (zi 1), σ))) ∧
(¬ x0 = x1 → ((x1 = 0 → (Q (false, .int (zi 0), σ))) ∧
(¬ x1 = 0 → ∃ t, cp_cast 13 (cm_tg σ x1) = some t ∧ (t = true → ((x1 = 0 ∨ cp_cast 13 (cm_tg σ x1) = some true) ∧
cm_tg σ x0 = 29 ∧
cm_tg σ x1 = 29 ∧
((cm_I σ x0 1) = (cm_I σ x1 1) → (wp_c (d - 1) 523 [.ref (cm_R σ x0 0), .ref (cm_R σ x1 0)] σ (qi fun r1 σ1 => (r1 = (zi 0) → (Q (false, .int (zi 0), σ1))) ∧
(¬ r1 = (zi 0) → (Q (false, .int (zi 1), σ1)))))) ∧
(¬ (cm_I σ x0 1) = (cm_I σ x1 1) → (Q (false, .int (zi 0), σ))))) ∧ (¬ t = true → (Q (false, .int (zi 0), σ))))))) : wp_c d 512 [.ref x0, .ref x1] σ Q :=
  wc_in (by omega) rfl rfl (L := [.ref x0, .ref x1, .null]) rfl (have hd : 1 ≤ d - 1 := (by omega); (wr_aload_n rfl rfl rfl (wr_aload_n rfl rfl rfl (wr_acmp_ne rfl rfl h0.1 (cr_ii h0.2 (fun c1 h2 => (wr_iconst rfl rfl (wr_ireturn rfl (by decide) h2))) (fun c3 h4 => (wr_aload_n rfl rfl rfl (wr_instanceof rfl rfl (cr_ii h4 (fun _ h5 => (wr_if_eq rfl rfl (cr_T (by decide) (wr_iconst rfl rfl (wr_ireturn rfl (by decide) h5))))) (fun _ ⟨t, hc, hh⟩ => ⟨t, hc, cr_ii hh (fun _ h6 => (wr_if_eq rfl rfl (cr_F (by decide) (wr_aload_n rfl rfl rfl (wr_checkcast rfl rfl h6.1 (wr_astore_n rfl rfl rfl (L2 := [.ref x0, .ref x1, .ref x1]) rfl (wr_getstatic rfl (w := .int (zi 1)) rfl rfl (wr_if_eq rfl rfl (cr_F (by decide) (wr_aload_n rfl rfl rfl (wr_gfI rfl rfl (by decide) ⟨by decide, by decide⟩ h6.2.1 (wr_aload_n rfl rfl rfl (wr_gfI rfl rfl (by decide) ⟨by decide, by decide⟩ h6.2.2.1 (wr_icmp_ne rfl rfl (cr_ii h6.2.2.2 (fun c7 h8 => (wr_aload_n rfl rfl rfl (wr_gfR rfl rfl (by decide) h6.2.1 (wr_aload_n rfl rfl rfl (wr_gfR rfl rfl (by decide) h6.2.2.1 (wr_invsi rfl hd rfl (fun _ => rfl) rfl rfl (wm_i h8 fun r1 σ1 h9 => (wr_if_eq rfl rfl (cr_ii h9 (fun c10 h11 => (wr_iconst rfl rfl (wr_ireturn rfl (by decide) h11))) (fun c12 h13 => (wr_iconst rfl rfl (wr_goto rfl (wr_ireturn rfl (by decide) h13))))))))))))) (fun c14 h15 => (wr_iconst rfl rfl (wr_ireturn rfl (by decide) h15)))))))))))))))))) (fun _ h16 => (wr_if_eq rfl rfl (cr_T (by decide) (wr_iconst rfl rfl (wr_ireturn rfl (by decide) h16)))))⟩))))))))))
/-- java/lang/String.getBytes([BIB)V : labels [] -/
theorem k513 {d : Nat} {x0 : Nat} {x1 : Nat} {x2 : Int32} {x3 : Int32} {σ : cm_S} {Q : cm_O → Prop} (hd : 2 ≤ d) (h0 : cm_tg σ x0 = 29 ∧
wp_c (d - 1) 511 [.ref x0] σ (qi fun r1 σ1 => (r1 = x3 → (cm_tg σ1 x0 = 29 ∧
100 < cm_tg σ1 (cm_R σ1 x0 0) ∧
cm_cw σ1 (cm_R σ1 x0 0) x1 (zi 0) (x2 <<< (x3 &&& 31)) (Int32.ofNat (cm_ln σ1 (cm_R σ1 x0 0))) (fun σ2 => Q (false, .int 0, σ2)))) ∧
(¬ r1 = x3 → (cm_tg σ1 x0 = 29 ∧
100 < cm_tg σ1 (cm_R σ1 x0 0) ∧
wp_c (d - 1) 525 [.ref (cm_R σ1 x0 0), .int (zi 0), .ref x1, .int x2, .int (Int32.ofNat (cm_ln σ1 (cm_R σ1 x0 0)))] σ1 (qv fun σ3 => Q (false, .int 0, σ3)))))) : wp_c d 513 [.ref x0, .ref x1, .int x2, .int x3] σ Q :=
  wc_in (by omega) rfl rfl (L := [.ref x0, .ref x1, .int x2, .int x3]) rfl (have hd : 1 ≤ d - 1 := (by omega); (wr_aload_n rfl rfl rfl (wr_invwi rfl hd rfl (fun _ => rfl) rfl (cr_dt rfl h0.1) rfl (wm_i h0.2 fun r1 σ1 h1 => (wr_iload_n rfl rfl rfl (wr_icmp_ne rfl rfl (cr_ii h1 (fun c2 h3 => (wr_aload_n rfl rfl rfl (wr_gfR rfl rfl (by decide) h3.1 (wr_iconst rfl rfl (wr_aload_n rfl rfl rfl (wr_iload_n rfl rfl rfl (wr_iload_n rfl rfl rfl (wr_ishl rfl rfl (wr_aload_n rfl rfl rfl (wr_gfR rfl rfl (by decide) h3.1 (wr_arraylength rfl rfl h3.2.1 (wr_arraycopy rfl hd rfl rfl (h3.2.2.mono (fun σ2 h4 => (wr_goto rfl (wr_return rfl h4)))))))))))))))) (fun c5 h6 => (wr_aload_n rfl rfl rfl (wr_gfR rfl rfl (by decide) h6.1 (wr_iconst rfl rfl (wr_aload_n rfl rfl rfl (wr_iload_n rfl rfl rfl (wr_aload_n rfl rfl rfl (wr_gfR rfl rfl (by decide) h6.1 (wr_arraylength rfl rfl h6.2.1 (wr_invsv rfl hd rfl (fun _ => rfl) rfl rfl (wm_v h6.2.2 fun σ3 h7 => (wr_return rfl h7)))))))))))))))))))
/-- java/lang/String.hashCode()I : labels [] -/
theorem k514 {d : Nat} {x0 : Nat} {σ : cm_S} {Q : cm_O → Prop} (hd : 2 ≤ d) (h0 : cm_tg σ x0 = 29 ∧
((cm_I σ x0 2) = (zi 0) → (((cm_I σ x0 3) = (zi 0) → (wp_c (d - 1) 519 [.ref x0] σ (qi fun r1 σ1 => (r1 = (zi 0) → (cm_tg σ1 x0 = 29 ∧
wp_c (d - 1) 540 [.ref (cm_R σ1 x0 0)] σ1 (qi fun r2 σ2 => (r2 = (zi 0) → (cm_tg σ2 x0 = 29 ∧
cm_K cp ≤ x0 ∧
(∀ σ3, σ3 = cm_pI σ2 x0 3 (zi 1) → 
Q (false, .int r2, σ3)))) ∧
(¬ r2 = (zi 0) → (cm_tg σ2 x0 = 29 ∧
cm_K cp ≤ x0 ∧
(∀ σ4, σ4 = cm_pI σ2 x0 2 r2 → 
Q (false, .int r2, σ4))))))) ∧
(¬ r1 = (zi 0) → (cm_tg σ1 x0 = 29 ∧
wp_c (d - 1) 524 [.ref (cm_R σ1 x0 0)] σ1 (qi fun r5 σ5 => (r5 = (zi 0) → (cm_tg σ5 x0 = 29 ∧
cm_K cp ≤ x0 ∧
(∀ σ6, σ6 = cm_pI σ5 x0 3 (zi 1) → 
Q (false, .int r5, σ6)))) ∧
(¬ r5 = (zi 0) → (cm_tg σ5 x0 = 29 ∧
cm_K cp ≤ x0 ∧
(∀ σ7, σ7 = cm_pI σ5 x0 2 r5 → 
Q (false, .int r5, σ7)))))))))) ∧
(¬ (cm_I σ x0 3) = (zi 0) → (Q (false, .int (cm_I σ x0 2), σ))))) ∧
(¬ (cm_I σ x0 2) = (zi 0) → (Q (false, .int (cm_I σ x0 2), σ)))) : wp_c d 514 [.ref x0] σ Q :=
  wc_in (by omega) rfl rfl (L := [.ref x0, .null]) rfl (have hd : 1 ≤ d - 1 := (by omega); (wr_aload_n rfl rfl rfl (wr_gfI rfl rfl (by decide) ⟨by decide, by decide⟩ h0.1 (wr_istore_n rfl rfl rfl (L2 := [.ref x0, .int (cm_I σ x0 2)]) rfl (wr_iload_n rfl rfl rfl (wr_if_ne rfl rfl (cr_ii h0.2 (fun c1 h2 => (wr_aload_n rfl rfl rfl (wr_gfI rfl rfl (by decide) ⟨by decide, by decide⟩ h0.1 (wr_if_ne rfl rfl (cr_ii h2 (fun c3 h4 => (wr_aload_n rfl rfl rfl (wr_invwi rfl hd rfl (fun _ => rfl) rfl (cr_dt rfl h0.1) rfl (wm_i h4 fun r1 σ1 h5 => (wr_if_eq rfl rfl (cr_ii h5 (fun c6 h7 => (wr_aload_n rfl rfl rfl (wr_gfR rfl rfl (by decide) h7.1 (wr_invsi rfl hd rfl (fun _ => rfl) rfl rfl (wm_i h7.2 fun r2 σ2 h8 => (wr_istore_n rfl rfl rfl (L2 := [.ref x0, .int r2]) rfl (wr_iload_n rfl rfl rfl (wr_if_ne rfl rfl (cr_ii h8 (fun c9 h10 => (wr_aload_n rfl rfl rfl (wr_iconst rfl rfl (wr_pfI rfl rfl (by decide) ⟨by decide, by decide⟩ h10.1 h10.2.1 (by decide) (wr_goto rfl (wr_iload_n rfl rfl rfl (wr_ireturn rfl rfl (h10.2.2 _ rfl)))))))) (fun c11 h12 => (wr_aload_n rfl rfl rfl (wr_iload_n rfl rfl rfl (wr_pfI rfl rfl (by decide) ⟨by decide, by decide⟩ h12.1 h12.2.1 rfl (wr_iload_n rfl rfl rfl (wr_ireturn rfl rfl (h12.2.2 _ rfl)))))))))))))))) (fun c13 h14 => (wr_aload_n rfl rfl rfl (wr_gfR rfl rfl (by decide) h14.1 (wr_invsi rfl hd rfl (fun _ => rfl) rfl rfl (wm_i h14.2 fun r5 σ5 h15 => (wr_goto rfl (wr_istore_n rfl rfl rfl (L2 := [.ref x0, .int r5]) rfl (wr_iload_n rfl rfl rfl (wr_if_ne rfl rfl (cr_ii h15 (fun c16 h17 => (wr_aload_n rfl rfl rfl (wr_iconst rfl rfl (wr_pfI rfl rfl (by decide) ⟨by decide, by decide⟩ h17.1 h17.2.1 (by decide) (wr_goto rfl (wr_iload_n rfl rfl rfl (wr_ireturn rfl rfl (h17.2.2 _ rfl)))))))) (fun c18 h19 => (wr_aload_n rfl rfl rfl (wr_iload_n rfl rfl rfl (wr_pfI rfl rfl (by decide) ⟨by decide, by decide⟩ h19.1 h19.2.1 rfl (wr_iload_n rfl rfl rfl (wr_ireturn rfl rfl (h19.2.2 _ rfl))))))))))))))))))))))) (fun c20 h21 => (wr_iload_n rfl rfl rfl (wr_ireturn rfl rfl h21)))))))) (fun c22 h23 => (wr_iload_n rfl rfl rfl (wr_ireturn rfl rfl h23))))))))))
/-- java/lang/String.<init>(Ljava/lang/StringBuilder;)V : labels [] -/
theorem k515 {d : Nat} {x0 : Nat} {x1 : Nat} {σ : cm_S} {Q : cm_O → Prop} (hd : 2 ≤ d) (h0 : (cm_tg σ x0 ≠ 0 ∧ cm_tg σ x0 < 60) ∧
wp_c (d - 1) 516 [.ref x0, .ref x1, .ref 0] σ (qv fun σ1 => Q (false, .int 0, σ1))) : wp_c d 515 [.ref x0, .ref x1] σ Q :=
  wc_in (by omega) rfl rfl (L := [.ref x0, .ref x1]) rfl (have hd : 1 ≤ d - 1 := (by omega); (wr_aload_n rfl rfl rfl (wr_aload_n rfl rfl rfl (wr_aconst_null rfl rfl (wr_invpv rfl hd rfl (fun _ => rfl) rfl h0.1 rfl (wm_v h0.2 fun σ1 h1 => (wr_return rfl h1)))))))
/-- java/lang/String.<init>(Ljava/lang/AbstractStringBuilder;Ljava/lang/Void;)V : labels [] -/
theorem k516 {d : Nat} {x0 : Nat} {x1 : Nat} {x2 : Nat} {σ : cm_S} {Q : cm_O → Prop} (hd : 2 ≤ d) (h0 : cm_tg σ x0 ≠ 0 ∧
cm_tg σ x1 = 28 ∧
wp_c (d - 1) 553 [.ref x1] σ (qr fun r1 σ1 => cm_tg σ1 x1 = 28 ∧
wp_c (d - 1) 568 [.ref x1] σ1 (qi fun r2 σ2 => cm_tg σ2 x1 = 28 ∧
wp_c (d - 1) 558 [.ref x1] σ2 (qi fun r3 σ3 => (r3 = (zi 0) → (cm_tg σ3 x1 = 28 ∧
((cm_I σ3 x1 2) = (zi 0) → (cm_tg σ3 x0 = 29 ∧
cm_K cp ≤ x0 ∧
(∀ σ4, σ4 = cm_pI σ3 x0 1 (zi 1) → 
wp_c (d - 1) 586 [.ref r1, .int (zi 0), .int (r2 <<< ((zi 1) &&& 31))] σ4 (qr fun r5 σ5 => cm_tg σ5 x0 = 29 ∧
(∀ σ6, σ6 = cm_pR σ5 x0 0 r5 → 
Q (false, .int 0, σ6)))))) ∧
(¬ (cm_I σ3 x1 2) = (zi 0) → (wp_c (d - 1) 534 [.ref r1, .int (zi 0), .int r2] σ3 (qr fun r7 σ7 => cm_tg σ7 x0 = 29 ∧
cm_K cp ≤ x0 ∧
(∀ σ8, σ8 = cm_pR σ7 x0 0 r7 → 
wp_c (d - 1) 533 [.ref (cm_R σ8 x0 0), .int r2] σ8 (qi fun r9 σ9 => cm_tg σ9 x0 = 29 ∧
cm_fit 4 r9 = true ∧
(∀ σ10, σ10 = cm_pI σ9 x0 1 r9 → 
Q (false, .int 0, σ10))))))))) ∧
(¬ r3 = (zi 0) → (cm_tg σ3 x0 = 29 ∧
cm_K cp ≤ x0 ∧
(∀ σ11, σ11 = cm_pI σ3 x0 1 (zi 0) → 
wp_c (d - 1) 586 [.ref r1, .int (zi 0), .int r2] σ11 (qr fun r12 σ12 => cm_tg σ12 x0 = 29 ∧
(∀ σ13, σ13 = cm_pR σ12 x0 0 r12 → 
Q (false, .int 0, σ13)))))))))) : wp_c d 516 [.ref x0, .ref x1, .ref x2] σ Q :=
  wc_in (by omega) rfl rfl (L := [.ref x0, .ref x1, .ref x2, .null, .null]) rfl (have hd : 1 ≤ d - 1 := (by omega); (wr_aload_n rfl rfl rfl (wr_objinit rfl hd rfl rfl h0.1 (wr_aload_n rfl rfl rfl (wr_invwr rfl hd rfl (fun _ => rfl) rfl (cr_dt rfl h0.2.1) rfl (wm_r h0.2.2 fun r1 σ1 h1 => (wr_astore_n rfl rfl rfl (L2 := [.ref x0, .ref x1, .ref x2, .ref r1, .null]) rfl (wr_aload_n rfl rfl rfl (wr_invwi rfl hd rfl (fun _ => rfl) rfl (cr_dt rfl h1.1) rfl (wm_i h1.2 fun r2 σ2 h2 => (wr_istore rfl rfl rfl (L2 := [.ref x0, .ref x1, .ref x2, .ref r1, .int r2]) rfl (wr_aload_n rfl rfl rfl (wr_invwi rfl hd rfl (fun _ => rfl) rfl (cr_dt rfl h2.1) rfl (wm_i h2.2 fun r3 σ3 h3 => (wr_if_eq rfl rfl (cr_ii h3 (fun c4 h5 => (wr_getstatic rfl (w := .int (zi 1)) rfl rfl (wr_if_eq rfl rfl (cr_F (by decide) (wr_aload_n rfl rfl rfl (wr_gfI rfl rfl (by decide) ⟨by decide, by decide⟩ h5.1 (wr_if_eq rfl rfl (cr_ii h5.2 (fun c6 h7 => (wr_aload_n rfl rfl rfl (wr_iconst rfl rfl (wr_pfI rfl rfl (by decide) ⟨by decide, by decide⟩ h7.1 h7.2.1 (by decide) (wr_aload_n rfl rfl rfl (wr_aload_n rfl rfl rfl (wr_iconst rfl rfl (wr_iload rfl rfl rfl (wr_iconst rfl rfl (wr_ishl rfl rfl (wr_invsr rfl hd rfl (fun _ => rfl) rfl rfl (wm_r (h7.2.2 _ rfl) fun r5 σ5 h8 => (wr_pfR rfl rfl (by decide) h8.1 h7.2.1 (wr_return rfl (h8.2 _ rfl))))))))))))))) (fun c9 h10 => (wr_aload_n rfl rfl rfl (wr_aload_n rfl rfl rfl (wr_iconst rfl rfl (wr_iload rfl rfl rfl (wr_invsr rfl hd rfl (fun _ => rfl) rfl rfl (wm_r h10 fun r7 σ7 h11 => (wr_pfR rfl rfl (by decide) h11.1 h11.2.1 (wr_aload_n rfl rfl rfl (wr_aload_n rfl rfl rfl (wr_gfR rfl rfl (by decide) h11.1 (wr_iload rfl rfl rfl (wr_invsi rfl hd rfl (fun _ => rfl) rfl rfl (wm_i (h11.2.2 _ rfl) fun r9 σ9 h12 => (wr_pfI rfl rfl (by decide) ⟨by decide, by decide⟩ h12.1 h11.2.1 h12.2.1 (wr_return rfl (h12.2.2 _ rfl))))))))))))))))))))))))) (fun c13 h14 => (wr_aload_n rfl rfl rfl (wr_iconst rfl rfl (wr_pfI rfl rfl (by decide) ⟨by decide, by decide⟩ h14.1 h14.2.1 (by decide) (wr_aload_n rfl rfl rfl (wr_aload_n rfl rfl rfl (wr_iconst rfl rfl (wr_iload rfl rfl rfl (wr_invsr rfl hd rfl (fun _ => rfl) rfl rfl (wm_r (h14.2.2 _ rfl) fun r12 σ12 h15 => (wr_pfR rfl rfl (by decide) h15.1 h14.2.1 (wr_goto rfl (wr_return rfl (h15.2 _ rfl))))))))))))))))))))))))))))))
/-- java/lang/String.<init>([BB)V : labels [] -/
theorem k517 {d : Nat} {x0 : Nat} {x1 : Nat} {x2 : Int32} {σ : cm_S} {Q : cm_O → Prop} (hd : 2 ≤ d) (h0 : cm_tg σ x0 ≠ 0 ∧
cm_tg σ x0 = 29 ∧
cm_K cp ≤ x0 ∧
(∀ σ1, σ1 = cm_pR σ x0 0 x1 → 
cm_fit 4 x2 = true ∧
(∀ σ2, σ2 = cm_pI σ1 x0 1 x2 → 
Q (false, .int 0, σ2)))) : wp_c d 517 [.ref x0, .ref x1, .int x2] σ Q :=
  wc_in (by omega) rfl rfl (L := [.ref x0, .ref x1, .int x2]) rfl (have hd : 1 ≤ d - 1 := (by omega); (wr_aload_n rfl rfl rfl (wr_objinit rfl hd rfl rfl h0.1 (wr_aload_n rfl rfl rfl (wr_aload_n rfl rfl rfl (wr_pfR rfl rfl (by decide) h0.2.1 h0.2.2.1 (wr_aload_n rfl rfl rfl (wr_iload_n rfl rfl rfl (wr_pfI rfl rfl (by decide) ⟨by decide, by decide⟩ h0.2.1 h0.2.2.1 (h0.2.2.2 _ rfl).1 (wr_return rfl ((h0.2.2.2 _ rfl).2 _ rfl)))))))))))
/-- java/lang/String.isEmpty()Z : labels [] -/
theorem k518 {d : Nat} {x0 : Nat} {σ : cm_S} {Q : cm_O → Prop} (hd : 1 ≤ d) (h0 : cm_tg σ x0 = 29 ∧
100 < cm_tg σ (cm_R σ x0 0) ∧
((Int32.ofNat (cm_ln σ (cm_R σ x0 0))) = (zi 0) → (Q (false, .int (zi 1), σ))) ∧
(¬ (Int32.ofNat (cm_ln σ (cm_R σ x0 0))) = (zi 0) → (Q (false, .int (zi 0), σ)))) : wp_c d 518 [.ref x0] σ Q :=
  wc_in (by omega) rfl rfl (L := [.ref x0]) rfl ((wr_aload_n rfl rfl rfl (wr_gfR rfl rfl (by decide) h0.1 (wr_arraylength rfl rfl h0.2.1 (wr_if_ne rfl rfl (cr_ii h0.2.2 (fun c1 h2 => (wr_iconst rfl rfl (wr_goto rfl (wr_ireturn rfl (by decide) h2)))) (fun c3 h4 => (wr_iconst rfl rfl (wr_ireturn rfl (by decide) h4)))))))))
/-- java/lang/String.isLatin1()Z : labels [] -/
theorem k519 {d : Nat} {x0 : Nat} {σ : cm_S} {Q : cm_O → Prop} (hd : 1 ≤ d) (h0 : cm_tg σ x0 = 29 ∧
((cm_I σ x0 1) = (zi 0) → (Q (false, .int (zi 1), σ))) ∧
(¬ (cm_I σ x0 1) = (zi 0) → (Q (false, .int (zi 0), σ)))) : wp_c d 519 [.ref x0] σ Q :=
  wc_in (by omega) rfl rfl (L := [.ref x0]) rfl ((wr_getstatic rfl (w := .int (zi 1)) rfl rfl (wr_if_eq rfl rfl (cr_F (by decide) (wr_aload_n rfl rfl rfl (wr_gfI rfl rfl (by decide) ⟨by decide, by decide⟩ h0.1 (wr_if_ne rfl rfl (cr_ii h0.2 (fun c1 h2 => (wr_iconst rfl rfl (wr_goto rfl (wr_ireturn rfl (by decide) h2)))) (fun c3 h4 => (wr_iconst rfl rfl (wr_ireturn rfl (by decide) h4)))))))))))
/-- java/lang/String.length()I : labels [] -/
theorem k520 {d : Nat} {x0 : Nat} {σ : cm_S} {Q : cm_O → Prop} (hd : 2 ≤ d) (h0 : cm_tg σ x0 = 29 ∧
100 < cm_tg σ (cm_R σ x0 0) ∧
wp_c (d - 1) 511 [.ref x0] σ (qi fun r1 σ1 => Q (false, .int ((Int32.ofNat (cm_ln σ (cm_R σ x0 0))) >>> (r1 &&& 31)), σ1))) : wp_c d 520 [.ref x0] σ Q :=
  wc_in (by omega) rfl rfl (L := [.ref x0]) rfl (have hd : 1 ≤ d - 1 := (by omega); (wr_aload_n rfl rfl rfl (wr_gfR rfl rfl (by decide) h0.1 (wr_arraylength rfl rfl h0.2.1 (wr_aload_n rfl rfl rfl (wr_invwi rfl hd rfl (fun _ => rfl) rfl (cr_dt rfl h0.1) rfl (wm_i h0.2.2 fun r1 σ1 h1 => (wr_ishr rfl rfl (wr_ireturn rfl rfl h1)))))))))
/-- java/lang/StringLatin1.canEncode(C)Z : labels [] -/
theorem k521 {d : Nat} {x0 : Int32} {σ : cm_S} {Q : cm_O → Prop} (hd : 1 ≤ d) (h0 : ((zi 255) < x0 → (Q (false, .int (zi 0), σ))) ∧
(¬ (zi 255) < x0 → (Q (false, .int (zi 1), σ)))) : wp_c d 521 [.int x0] σ Q :=
  wc_in (by omega) rfl rfl (L := [.int x0]) rfl ((wr_iload_n rfl rfl rfl (wr_sipush (a := zi 255) rfl rfl rfl (wr_icmp_gt rfl rfl (cr_ii h0 (fun c1 h2 => (wr_iconst rfl rfl (wr_ireturn rfl (by decide) h2))) (fun c3 h4 => (wr_iconst rfl rfl (wr_goto rfl (wr_ireturn rfl (by decide) h4)))))))))
/-- java/lang/StringLatin1.charAt([BI)C : labels [] -/
theorem k522 {d : Nat} {x0 : Nat} {x1 : Int32} {σ : cm_S} {Q : cm_O → Prop} (hd : 2 ≤ d) (h0 : 100 < cm_tg σ x0 ∧
wp_c (d - 1) 510 [.int x1, .int (Int32.ofNat (cm_ln σ x0))] σ (qv fun σ1 => cm_tg σ1 x0 = 103 ∧
cm_in x1 (cm_ln σ1 x0) = true ∧
cm_fit 5 ((((cm_I σ1 x0 (cm_ix x1)) &&& (zi 255)).toUInt32 % 65536).toInt32) = true ∧ Q (false, .int ((((cm_I σ1 x0 (cm_ix x1)) &&& (zi 255)).toUInt32 % 65536).toInt32), σ1))) : wp_c d 522 [.ref x0, .int x1] σ Q :=
  wc_in (by omega) rfl rfl (L := [.ref x0, .int x1]) rfl (have hd : 1 ≤ d - 1 := (by omega); (wr_iload_n rfl rfl rfl (wr_aload_n rfl rfl rfl (wr_arraylength rfl rfl h0.1 (wr_invsv rfl hd rfl (fun _ => rfl) rfl rfl (wm_v h0.2 fun σ1 h1 => (wr_aload_n rfl rfl rfl (wr_iload_n rfl rfl rfl (wr_baloadB rfl rfl h1.1 h1.2.1 (wr_sipush (a := zi 255) rfl rfl rfl (wr_iand rfl rfl (wr_i2c rfl rfl (wr_ireturn rfl h1.2.2.1 h1.2.2.2)))))))))))))
/-- java/lang/StringLatin1.equals([B[B)Z : labels [9] -/
theorem k523 {d : Nat} {x0 : Nat} {x1 : Nat} {σ : cm_S} {Q : cm_O → Prop} (hd : 1 ≤ d) (h0 : 100 < cm_tg σ x0 ∧
100 < cm_tg σ x1 ∧
((Int32.ofNat (cm_ln σ x0)) = (Int32.ofNat (cm_ln σ x1)) → (wp_r (d - 1) 523 (9, [.ref x0, .ref x1, .int (zi 0)], [], σ) Q)) ∧
(¬ (Int32.ofNat (cm_ln σ x0)) = (Int32.ofNat (cm_ln σ x1)) → (Q (false, .int (zi 0), σ)))) : wp_c d 523 [.ref x0, .ref x1] σ Q :=
  wc_in (by omega) rfl rfl (L := [.ref x0, .ref x1, .null]) rfl ((wr_aload_n rfl rfl rfl (wr_arraylength rfl rfl h0.1 (wr_aload_n rfl rfl rfl (wr_arraylength rfl rfl h0.2.1 (wr_icmp_ne rfl rfl (cr_ii h0.2.2 (fun c1 h2 => (wr_iconst rfl rfl (wr_istore_n rfl rfl rfl (L2 := [.ref x0, .ref x1, .int (zi 0)]) rfl h2))) (fun c3 h4 => (wr_iconst rfl rfl (wr_ireturn rfl (by decide) h4))))))))))
theorem k523_9 {d : Nat} {x0 : Nat} {x1 : Nat} {x2 : Int32} {σ : cm_S} {Q : cm_O → Prop} (h0 : 100 < cm_tg σ x0 ∧
(x2 < (Int32.ofNat (cm_ln σ x0)) → (cm_tg σ x0 = 103 ∧
cm_in x2 (cm_ln σ x0) = true ∧
cm_tg σ x1 = 103 ∧
cm_in x2 (cm_ln σ x1) = true ∧
((cm_I σ x0 (cm_ix x2)) = (cm_I σ x1 (cm_ix x2)) → (wp_r d 523 (9, [.ref x0, .ref x1, .int (x2 + zi 1)], [], σ) Q)) ∧
(¬ (cm_I σ x0 (cm_ix x2)) = (cm_I σ x1 (cm_ix x2)) → (Q (false, .int (zi 0), σ))))) ∧
(¬ x2 < (Int32.ofNat (cm_ln σ x0)) → (Q (false, .int (zi 1), σ)))) : wp_r d 523 (9, [.ref x0, .ref x1, .int x2], [], σ) Q :=
  (wr_iload_n rfl rfl rfl (wr_aload_n rfl rfl rfl (wr_arraylength rfl rfl h0.1 (wr_icmp_ge rfl rfl (cr_ii h0.2 (fun c1 h2 => (wr_aload_n rfl rfl rfl (wr_iload_n rfl rfl rfl (wr_baloadB rfl rfl h2.1 h2.2.1 (wr_aload_n rfl rfl rfl (wr_iload_n rfl rfl rfl (wr_baloadB rfl rfl h2.2.2.1 h2.2.2.2.1 (wr_icmp_eq rfl rfl (cr_ii h2.2.2.2.2 (fun c3 h4 => (wr_iinc rfl rfl rfl (L2 := [.ref x0, .ref x1, .int (x2 + zi 1)]) rfl (wr_goto rfl h4))) (fun c5 h6 => (wr_iconst rfl rfl (wr_ireturn rfl (by decide) h6)))))))))))) (fun c7 h8 => (wr_iconst rfl rfl (wr_ireturn rfl (by decide) h8))))))))
/-- java/lang/StringLatin1.hashCode([B)I : labels [] -/
theorem k524 {d : Nat} {x0 : Nat} {σ : cm_S} {Q : cm_O → Prop} (hd : 2 ≤ d) (h0 : 100 < cm_tg σ x0 ∧
((Int32.ofNat (cm_ln σ x0)).toInt = 0 → (Q (false, .int (zi 0), σ))) ∧
(¬ (Int32.ofNat (cm_ln σ x0)).toInt = 0 → ((Int32.ofNat (cm_ln σ x0)).toInt = 1 → (cm_tg σ x0 = 103 ∧
cm_in (zi 0) (cm_ln σ x0) = true ∧
Q (false, .int ((cm_I σ x0 (cm_ix (zi 0))) &&& (zi 255)), σ))) ∧
(¬ (Int32.ofNat (cm_ln σ x0)).toInt = 1 → wp_c (d - 1) 578 [.ref x0, .int (zi 0), .int (Int32.ofNat (cm_ln σ x0)), .int (zi 0), .int (zi 4)] σ (qi fun r1 σ1 => Q (false, .int r1, σ1))))) : wp_c d 524 [.ref x0] σ Q :=
  wc_in (by omega) rfl rfl (L := [.ref x0]) rfl (have hd : 1 ≤ d - 1 := (by omega); (wr_aload_n rfl rfl rfl (wr_arraylength rfl rfl h0.1 (wr_lookup rfl (by decide) (l := [(0, 26), (1, 30)]) rfl (cr_ii h0.2 (fun _ h1 => ⟨by decide, (wr_iconst rfl rfl (wr_goto rfl (wr_ireturn rfl rfl h1)))⟩) (fun _ hz0 => (cr_ii hz0 (fun _ h2 => ⟨by decide, (wr_aload_n rfl rfl rfl (wr_iconst rfl rfl (wr_baloadB rfl rfl h2.1 h2.2.1 (wr_sipush (a := zi 255) rfl rfl rfl (wr_iand rfl rfl (wr_goto rfl (wr_ireturn rfl rfl h2.2.2)))))))⟩) (fun _ hz1 => ⟨by decide, (fun h3 => (wr_aload_n rfl rfl rfl (wr_iconst rfl rfl (wr_aload_n rfl rfl rfl (wr_arraylength rfl rfl h0.1 (wr_iconst rfl rfl (wr_iconst rfl rfl (wr_invsi rfl hd rfl (fun _ => rfl) rfl rfl (wm_i h3 fun r1 σ1 h4 => (wr_ireturn rfl rfl h4)))))))))) hz1⟩))))))))
/-- java/lang/StringLatin1.inflate([BI[BII)V : labels [] -/
theorem k525 {d : Nat} {x0 : Nat} {x1 : Int32} {x2 : Nat} {x3 : Int32} {x4 : Int32} {σ : cm_S} {Q : cm_O → Prop} (hd : 2 ≤ d) (h0 : wp_c (d - 1) 541 [.ref x0, .int x1, .ref x2, .int x3, .int x4] σ (qv fun σ1 => Q (false, .int 0, σ1))) : wp_c d 525 [.ref x0, .int x1, .ref x2, .int x3, .int x4] σ Q :=
  wc_in (by omega) rfl rfl (L := [.ref x0, .int x1, .ref x2, .int x3, .int x4]) rfl (have hd : 1 ≤ d - 1 := (by omega); (wr_aload_n rfl rfl rfl (wr_iload_n rfl rfl rfl (wr_aload_n rfl rfl rfl (wr_iload_n rfl rfl rfl (wr_iload rfl rfl rfl (wr_invsv rfl hd rfl (fun _ => rfl) rfl rfl (wm_v h0 fun σ1 h1 => (wr_return rfl h1)))))))))
/-- jdk/internal/util/Preconditions.checkFromIndexSize(IIILjava/util/function/BiFunction;)I : labels [] -/
theorem k526 {d : Nat} {x0 : Int32} {x1 : Int32} {x2 : Int32} {x3 : Nat} {σ : cm_S} {Q : cm_O → Prop} (hd : 1 ≤ d) (h0 : (((x2 ||| x0) ||| x1) < (zi 0) → (False)) ∧
(¬ ((x2 ||| x0) ||| x1) < (zi 0) → (((x2 - x0) < x1 → (False)) ∧
(¬ (x2 - x0) < x1 → (Q (false, .int x0, σ)))))) : wp_c d 526 [.int x0, .int x1, .int x2, .ref x3] σ Q :=
  wc_in (by omega) rfl rfl (L := [.int x0, .int x1, .int x2, .ref x3]) rfl ((wr_iload_n rfl rfl rfl (wr_iload_n rfl rfl rfl (wr_ior rfl rfl (wr_iload_n rfl rfl rfl (wr_ior rfl rfl (wr_if_lt rfl rfl (cr_ii h0 (fun c1 h2 => (wr_aload_n rfl rfl rfl (wr_iload_n rfl rfl rfl (wr_iload_n rfl rfl rfl (wr_iload_n rfl rfl rfl (False.elim h2)))))) (fun c3 h4 => (wr_iload_n rfl rfl rfl (wr_iload_n rfl rfl rfl (wr_iload_n rfl rfl rfl (wr_isub rfl rfl (wr_icmp_le rfl rfl (cr_ii h4 (fun c5 h6 => (wr_aload_n rfl rfl rfl (wr_iload_n rfl rfl rfl (wr_iload_n rfl rfl rfl (wr_iload_n rfl rfl rfl (False.elim h6)))))) (fun c7 h8 => (wr_iload_n rfl rfl rfl (wr_ireturn rfl rfl h8))))))))))))))))))
/-- jdk/internal/util/Preconditions.checkFromToIndex(IIILjava/util/function/BiFunction;)I : labels [] -/
theorem k527 {d : Nat} {x0 : Int32} {x1 : Int32} {x2 : Int32} {x3 : Nat} {σ : cm_S} {Q : cm_O → Prop} (hd : 1 ≤ d) (h0 : (x0 < (zi 0) → (False)) ∧
(¬ x0 < (zi 0) → ((x1 < x0 → (False)) ∧
(¬ x1 < x0 → ((x2 < x1 → (False)) ∧
(¬ x2 < x1 → (Q (false, .int x0, σ)))))))) : wp_c d 527 [.int x0, .int x1, .int x2, .ref x3] σ Q :=
  wc_in (by omega) rfl rfl (L := [.int x0, .int x1, .int x2, .ref x3]) rfl ((wr_iload_n rfl rfl rfl (wr_if_lt rfl rfl (cr_ii h0 (fun c1 h2 => (wr_aload_n rfl rfl rfl (wr_iload_n rfl rfl rfl (wr_iload_n rfl rfl rfl (wr_iload_n rfl rfl rfl (False.elim h2)))))) (fun c3 h4 => (wr_iload_n rfl rfl rfl (wr_iload_n rfl rfl rfl (wr_icmp_gt rfl rfl (cr_ii h4 (fun c5 h6 => (wr_aload_n rfl rfl rfl (wr_iload_n rfl rfl rfl (wr_iload_n rfl rfl rfl (wr_iload_n rfl rfl rfl (False.elim h6)))))) (fun c7 h8 => (wr_iload_n rfl rfl rfl (wr_iload_n rfl rfl rfl (wr_icmp_le rfl rfl (cr_ii h8 (fun c9 h10 => (wr_aload_n rfl rfl rfl (wr_iload_n rfl rfl rfl (wr_iload_n rfl rfl rfl (wr_iload_n rfl rfl rfl (False.elim h10)))))) (fun c11 h12 => (wr_iload_n rfl rfl rfl (wr_ireturn rfl rfl h12)))))))))))))))))
/-- jdk/internal/util/Preconditions.checkIndex(IILjava/util/function/BiFunction;)I : labels [] -/
theorem k528 {d : Nat} {x0 : Int32} {x1 : Int32} {x2 : Nat} {σ : cm_S} {Q : cm_O → Prop} (hd : 1 ≤ d) (h0 : (x0 < (zi 0) → (False)) ∧
(¬ x0 < (zi 0) → ((x0 < x1 → (Q (false, .int x0, σ))) ∧
(¬ x0 < x1 → (False))))) : wp_c d 528 [.int x0, .int x1, .ref x2] σ Q :=
  wc_in (by omega) rfl rfl (L := [.int x0, .int x1, .ref x2]) rfl ((wr_iload_n rfl rfl rfl (wr_if_lt rfl rfl (cr_ii h0 (fun c1 h2 => (wr_aload_n rfl rfl rfl (wr_iload_n rfl rfl rfl (wr_iload_n rfl rfl rfl (False.elim h2))))) (fun c3 h4 => (wr_iload_n rfl rfl rfl (wr_iload_n rfl rfl rfl (wr_icmp_lt rfl rfl (cr_ii h4 (fun c5 h6 => (wr_iload_n rfl rfl rfl (wr_ireturn rfl rfl h6))) (fun c7 h8 => (wr_aload_n rfl rfl rfl (wr_iload_n rfl rfl rfl (wr_iload_n rfl rfl rfl (False.elim h8))))))))))))))
/-- java/lang/AbstractStringBuilder.append(C)Ljava/lang/AbstractStringBuilder; : labels [45] -/
theorem k548 {d : Nat} {x0 : Nat} {x1 : Int32} {σ : cm_S} {Q : cm_O → Prop} (hd : 2 ≤ d) (h0 : cm_tg σ x0 = 28 ∧
wp_c (d - 1) 552 [.ref x0, .int ((cm_I σ x0 3) + (zi 1))] σ (qv fun σ1 => cm_tg σ1 x0 = 28 ∧
wp_c (d - 1) 558 [.ref x0] σ1 (qi fun r2 σ2 => (r2 = (zi 0) → (wp_r (d - 1) 548 (45, [.ref x0, .int x1], [], σ2) Q)) ∧
(¬ r2 = (zi 0) → (wp_c (d - 1) 521 [.int x1] σ2 (qi fun r3 σ3 => (r3 = (zi 0) → (wp_r (d - 1) 548 (45, [.ref x0, .int x1], [], σ3) Q)) ∧
(¬ r3 = (zi 0) → (cm_tg σ3 x0 = 28 ∧
cm_K cp ≤ x0 ∧
(∀ σ4, σ4 = cm_pI σ3 x0 3 ((cm_I σ3 x0 3) + (zi 1)) → 
cm_tg σ4 (cm_R σ3 x0 0) = 103 ∧
cm_in (cm_I σ3 x0 3) (cm_ln σ4 (cm_R σ3 x0 0)) = true ∧
cm_K cp ≤ (cm_R σ3 x0 0) ∧
(∀ σ5, σ5 = cm_pI σ4 (cm_R σ3 x0 0) (cm_ix (cm_I σ3 x0 3)) x1.toInt8.toInt32.toInt8.toInt32 → 
Q (false, .ref x0, σ5))))))))))) : wp_c d 548 [.ref x0, .int x1] σ Q :=
  wc_in (by omega) rfl rfl (L := [.ref x0, .int x1]) rfl (have hd : 1 ≤ d - 1 := (by omega); (wr_aload_n rfl rfl rfl (wr_aload_n rfl rfl rfl (wr_gfI rfl rfl (by decide) ⟨by decide, by decide⟩ h0.1 (wr_iconst rfl rfl (wr_iadd rfl rfl (wr_invwv rfl hd rfl (fun _ => rfl) rfl (cr_dt rfl h0.1) rfl (wm_v h0.2 fun σ1 h1 => (wr_aload_n rfl rfl rfl (wr_invwi rfl hd rfl (fun _ => rfl) rfl (cr_dt rfl h1.1) rfl (wm_i h1.2 fun r2 σ2 h2 => (wr_if_eq rfl rfl (cr_ii h2 (fun c3 h4 => h4) (fun c5 h6 => (wr_iload_n rfl rfl rfl (wr_invsi rfl hd rfl (fun _ => rfl) rfl rfl (wm_i h6 fun r3 σ3 h7 => (wr_if_eq rfl rfl (cr_ii h7 (fun c8 h9 => h9) (fun c10 h11 => (wr_aload_n rfl rfl rfl (wr_gfR rfl rfl (by decide) h11.1 (wr_aload_n rfl rfl rfl (wr_dup rfl rfl rfl (wr_gfI rfl rfl (by decide) ⟨by decide, by decide⟩ h11.1 (wr_dup_x1 rfl rfl rfl rfl (wr_iconst rfl rfl (wr_iadd rfl rfl (wr_pfI rfl rfl (by decide) ⟨by decide, by decide⟩ h11.1 h11.2.1 rfl (wr_iload_n rfl rfl rfl (wr_i2b rfl rfl (wr_bastoreB rfl rfl (h11.2.2 _ rfl).1 (h11.2.2 _ rfl).2.1 (h11.2.2 _ rfl).2.2.1 (wr_goto rfl (wr_aload_n rfl rfl rfl (wr_areturn rfl ((h11.2.2 _ rfl).2.2.2 _ rfl))))))))))))))))))))))))))))))))))))
theorem k548_45 {d : Nat} {x0 : Nat} {x1 : Int32} {σ : cm_S} {Q : cm_O → Prop} (hd : 1 ≤ d) (h0 : cm_tg σ x0 = 28 ∧
wp_c d 558 [.ref x0] σ (qi fun r1 σ1 => (r1 = (zi 0) → (cm_tg σ1 x0 = 28 ∧
cm_K cp ≤ x0 ∧
(∀ σ2, σ2 = cm_pI σ1 x0 3 ((cm_I σ1 x0 3) + (zi 1)) → 
wp_c d 546 [.ref (cm_R σ1 x0 0), .int (cm_I σ1 x0 3), .int x1] σ2 (qv fun σ3 => Q (false, .ref x0, σ3))))) ∧
(¬ r1 = (zi 0) → (cm_tg σ1 x0 = 28 ∧
wp_c d 554 [.ref x0] σ1 (qv fun σ4 => cm_tg σ4 x0 = 28 ∧
cm_K cp ≤ x0 ∧
(∀ σ5, σ5 = cm_pI σ4 x0 3 ((cm_I σ4 x0 3) + (zi 1)) → 
wp_c d 546 [.ref (cm_R σ4 x0 0), .int (cm_I σ4 x0 3), .int x1] σ5 (qv fun σ6 => Q (false, .ref x0, σ6)))))))) : wp_r d 548 (45, [.ref x0, .int x1], [], σ) Q :=
  (wr_aload_n rfl rfl rfl (wr_invwi rfl hd rfl (fun _ => rfl) rfl (cr_dt rfl h0.1) rfl (wm_i h0.2 fun r1 σ1 h1 => (wr_if_eq rfl rfl (cr_ii h1 (fun c2 h3 => (wr_aload_n rfl rfl rfl (wr_gfR rfl rfl (by decide) h3.1 (wr_aload_n rfl rfl rfl (wr_dup rfl rfl rfl (wr_gfI rfl rfl (by decide) ⟨by decide, by decide⟩ h3.1 (wr_dup_x1 rfl rfl rfl rfl (wr_iconst rfl rfl (wr_iadd rfl rfl (wr_pfI rfl rfl (by decide) ⟨by decide, by decide⟩ h3.1 h3.2.1 rfl (wr_iload_n rfl rfl rfl (wr_invsv rfl hd rfl (fun _ => rfl) rfl rfl (wm_v (h3.2.2 _ rfl) fun σ3 h4 => (wr_aload_n rfl rfl rfl (wr_areturn rfl h4))))))))))))))) (fun c5 h6 => (wr_aload_n rfl rfl rfl (wr_invwv rfl hd rfl (fun _ => rfl) rfl (cr_dt rfl h6.1) rfl (wm_v h6.2 fun σ4 h7 => (wr_aload_n rfl rfl rfl (wr_gfR rfl rfl (by decide) h7.1 (wr_aload_n rfl rfl rfl (wr_dup rfl rfl rfl (wr_gfI rfl rfl (by decide) ⟨by decide, by decide⟩ h7.1 (wr_dup_x1 rfl rfl rfl rfl (wr_iconst rfl rfl (wr_iadd rfl rfl (wr_pfI rfl rfl (by decide) ⟨by decide, by decide⟩ h7.1 h7.2.1 rfl (wr_iload_n rfl rfl rfl (wr_invsv rfl hd rfl (fun _ => rfl) rfl rfl (wm_v (h7.2.2 _ rfl) fun σ6 h8 => (wr_aload_n rfl rfl rfl (wr_areturn rfl h8)))))))))))))))))))))))
/-- java/lang/AbstractStringBuilder.appendNull()Ljava/lang/AbstractStringBuilder; : labels [] -/
theorem k549 {d : Nat} {x0 : Nat} {σ : cm_S} {Q : cm_O → Prop} (hd : 2 ≤ d) (h0 : cm_tg σ x0 = 28 ∧
wp_c (d - 1) 552 [.ref x0, .int ((cm_I σ x0 3) + (zi 4))] σ (qv fun σ1 => cm_tg σ1 x0 = 28 ∧
wp_c (d - 1) 558 [.ref x0] σ1 (qi fun r2 σ2 => (r2 = (zi 0) → (wp_c (d - 1) 547 [.ref (cm_R σ1 x0 0), .int (cm_I σ1 x0 3), .int (zi 110), .int (zi 117), .int (zi 108), .int (zi 108)] σ2 (qi fun r3 σ3 => cm_tg σ3 x0 = 28 ∧
cm_K cp ≤ x0 ∧
(∀ σ4, σ4 = cm_pI σ3 x0 3 r3 → 
Q (false, .ref x0, σ4))))) ∧
(¬ r2 = (zi 0) → (cm_tg σ2 (cm_R σ1 x0 0) = 103 ∧
cm_in (cm_I σ1 x0 3) (cm_ln σ2 (cm_R σ1 x0 0)) = true ∧
cm_K cp ≤ (cm_R σ1 x0 0) ∧
(∀ σ5, σ5 = cm_pI σ2 (cm_R σ1 x0 0) (cm_ix (cm_I σ1 x0 3)) (zi 110).toInt8.toInt32 → 
cm_in ((cm_I σ1 x0 3) + zi 1) (cm_ln σ5 (cm_R σ1 x0 0)) = true ∧
(∀ σ6, σ6 = cm_pI σ5 (cm_R σ1 x0 0) (cm_ix ((cm_I σ1 x0 3) + zi 1)) (zi 117).toInt8.toInt32 → 
cm_in (((cm_I σ1 x0 3) + zi 1) + zi 1) (cm_ln σ6 (cm_R σ1 x0 0)) = true ∧
(∀ σ7, σ7 = cm_pI σ6 (cm_R σ1 x0 0) (cm_ix (((cm_I σ1 x0 3) + zi 1) + zi 1)) (zi 108).toInt8.toInt32 → 
cm_in ((((cm_I σ1 x0 3) + zi 1) + zi 1) + zi 1) (cm_ln σ7 (cm_R σ1 x0 0)) = true ∧
(∀ σ8, σ8 = cm_pI σ7 (cm_R σ1 x0 0) (cm_ix ((((cm_I σ1 x0 3) + zi 1) + zi 1) + zi 1)) (zi 108).toInt8.toInt32 → 
cm_tg σ8 x0 = 28 ∧
cm_K cp ≤ x0 ∧
(∀ σ9, σ9 = cm_pI σ8 x0 3 (((((cm_I σ1 x0 3) + zi 1) + zi 1) + zi 1) + zi 1) → 
Q (false, .ref x0, σ9))))))))))) : wp_c d 549 [.ref x0] σ Q :=
  wc_in (by omega) rfl rfl (L := [.ref x0, .null, .null]) rfl (have hd : 1 ≤ d - 1 := (by omega); (wr_aload_n rfl rfl rfl (wr_aload_n rfl rfl rfl (wr_gfI rfl rfl (by decide) ⟨by decide, by decide⟩ h0.1 (wr_iconst rfl rfl (wr_iadd rfl rfl (wr_invwv rfl hd rfl (fun _ => rfl) rfl (cr_dt rfl h0.1) rfl (wm_v h0.2 fun σ1 h1 => (wr_aload_n rfl rfl rfl (wr_gfI rfl rfl (by decide) ⟨by decide, by decide⟩ h1.1 (wr_istore_n rfl rfl rfl (L2 := [.ref x0, .int (cm_I σ1 x0 3), .null]) rfl (wr_aload_n rfl rfl rfl (wr_gfR rfl rfl (by decide) h1.1 (wr_astore_n rfl rfl rfl (L2 := [.ref x0, .int (cm_I σ1 x0 3), .ref (cm_R σ1 x0 0)]) rfl (wr_aload_n rfl rfl rfl (wr_invwi rfl hd rfl (fun _ => rfl) rfl (cr_dt rfl h1.1) rfl (wm_i h1.2 fun r2 σ2 h2 => (wr_if_eq rfl rfl (cr_ii h2 (fun c3 h4 => (wr_aload_n rfl rfl rfl (wr_iload_n rfl rfl rfl (wr_bipush (a := zi 110) rfl rfl rfl (wr_bipush (a := zi 117) rfl rfl rfl (wr_bipush (a := zi 108) rfl rfl rfl (wr_bipush (a := zi 108) rfl rfl rfl (wr_invsi rfl hd rfl (fun _ => rfl) rfl rfl (wm_i h4 fun r3 σ3 h5 => (wr_istore_n rfl rfl rfl (L2 := [.ref x0, .int r3, .ref (cm_R σ1 x0 0)]) rfl (wr_aload_n rfl rfl rfl (wr_iload_n rfl rfl rfl (wr_pfI rfl rfl (by decide) ⟨by decide, by decide⟩ h5.1 h5.2.1 rfl (wr_aload_n rfl rfl rfl (wr_areturn rfl (h5.2.2 _ rfl)))))))))))))))) (fun c6 h7 => (wr_aload_n rfl rfl rfl (wr_iload_n rfl rfl rfl (wr_iinc rfl rfl rfl (L2 := [.ref x0, .int ((cm_I σ1 x0 3) + zi 1), .ref (cm_R σ1 x0 0)]) rfl (wr_bipush (a := zi 110) rfl rfl rfl (wr_bastoreB rfl rfl h7.1 h7.2.1 h7.2.2.1 (wr_aload_n rfl rfl rfl (wr_iload_n rfl rfl rfl (wr_iinc rfl rfl rfl (L2 := [.ref x0, .int (((cm_I σ1 x0 3) + zi 1) + zi 1), .ref (cm_R σ1 x0 0)]) rfl (wr_bipush (a := zi 117) rfl rfl rfl (wr_bastoreB rfl rfl h7.1 (h7.2.2.2 _ rfl).1 h7.2.2.1 (wr_aload_n rfl rfl rfl (wr_iload_n rfl rfl rfl (wr_iinc rfl rfl rfl (L2 := [.ref x0, .int ((((cm_I σ1 x0 3) + zi 1) + zi 1) + zi 1), .ref (cm_R σ1 x0 0)]) rfl (wr_bipush (a := zi 108) rfl rfl rfl (wr_bastoreB rfl rfl h7.1 ((h7.2.2.2 _ rfl).2 _ rfl).1 h7.2.2.1 (wr_aload_n rfl rfl rfl (wr_iload_n rfl rfl rfl (wr_iinc rfl rfl rfl (L2 := [.ref x0, .int (((((cm_I σ1 x0 3) + zi 1) + zi 1) + zi 1) + zi 1), .ref (cm_R σ1 x0 0)]) rfl (wr_bipush (a := zi 108) rfl rfl rfl (wr_bastoreB rfl rfl h7.1 (((h7.2.2.2 _ rfl).2 _ rfl).2 _ rfl).1 h7.2.2.1 (wr_goto rfl (wr_aload_n rfl rfl rfl (wr_iload_n rfl rfl rfl (wr_pfI rfl rfl (by decide) ⟨by decide, by decide⟩ ((((h7.2.2.2 _ rfl).2 _ rfl).2 _ rfl).2 _ rfl).1 ((((h7.2.2.2 _ rfl).2 _ rfl).2 _ rfl).2 _ rfl).2.1 rfl (wr_aload_n rfl rfl rfl (wr_areturn rfl (((((h7.2.2.2 _ rfl).2 _ rfl).2 _ rfl).2 _ rfl).2.2 _ rfl)))))))))))))))))))))))))))))))))))))))))))))))
/-- java/lang/AbstractStringBuilder.append(Ljava/lang/String;)Ljava/lang/AbstractStringBuilder; : labels [] -/
theorem k550 {d : Nat} {x0 : Nat} {x1 : Nat} {σ : cm_S} {Q : cm_O → Prop} (hd : 2 ≤ d) (h0 : (x1 = 0 → (cm_tg σ x0 = 28 ∧
wp_c (d - 1) 549 [.ref x0] σ (qr fun r1 σ1 => Q (false, .ref r1, σ1)))) ∧
(¬ x1 = 0 → (cm_tg σ x1 = 29 ∧
wp_c (d - 1) 520 [.ref x1] σ (qi fun r2 σ2 => cm_tg σ2 x0 = 28 ∧
wp_c (d - 1) 552 [.ref x0, .int ((cm_I σ2 x0 3) + r2)] σ2 (qv fun σ3 => cm_tg σ3 x0 = 28 ∧
wp_c (d - 1) 561 [.ref x0, .int (cm_I σ3 x0 3), .ref x1] σ3 (qv fun σ4 => cm_tg σ4 x0 = 28 ∧
cm_K cp ≤ x0 ∧
(∀ σ5, σ5 = cm_pI σ4 x0 3 ((cm_I σ4 x0 3) + r2) → 
Q (false, .ref x0, σ5)))))))) : wp_c d 550 [.ref x0, .ref x1] σ Q :=
  wc_in (by omega) rfl rfl (L := [.ref x0, .ref x1, .null]) rfl (have hd : 1 ≤ d - 1 := (by omega); (wr_aload_n rfl rfl rfl (wr_ifnonnull rfl rfl (cr_ii h0 (fun c1 h2 => (wr_aload_n rfl rfl rfl (wr_invwr rfl hd rfl (fun _ => rfl) rfl (cr_dt rfl h2.1) rfl (wm_r h2.2 fun r1 σ1 h3 => (wr_areturn rfl h3))))) (fun c4 h5 => (wr_aload_n rfl rfl rfl (wr_invwi rfl hd rfl (fun _ => rfl) rfl (cr_dt rfl h5.1) rfl (wm_i h5.2 fun r2 σ2 h6 => (wr_istore_n rfl rfl rfl (L2 := [.ref x0, .ref x1, .int r2]) rfl (wr_aload_n rfl rfl rfl (wr_aload_n rfl rfl rfl (wr_gfI rfl rfl (by decide) ⟨by decide, by decide⟩ h6.1 (wr_iload_n rfl rfl rfl (wr_iadd rfl rfl (wr_invwv rfl hd rfl (fun _ => rfl) rfl (cr_dt rfl h6.1) rfl (wm_v h6.2 fun σ3 h7 => (wr_aload_n rfl rfl rfl (wr_aload_n rfl rfl rfl (wr_gfI rfl rfl (by decide) ⟨by decide, by decide⟩ h7.1 (wr_aload_n rfl rfl rfl (wr_invwv rfl hd rfl (fun _ => rfl) rfl (cr_dt rfl h7.1) rfl (wm_v h7.2 fun σ4 h8 => (wr_aload_n rfl rfl rfl (wr_dup rfl rfl rfl (wr_gfI rfl rfl (by decide) ⟨by decide, by decide⟩ h8.1 (wr_iload_n rfl rfl rfl (wr_iadd rfl rfl (wr_pfI rfl rfl (by decide) ⟨by decide, by decide⟩ h8.1 h8.2.1 rfl (wr_aload_n rfl rfl rfl (wr_areturn rfl (h8.2.2 _ rfl)))))))))))))))))))))))))))))))
/-- java/lang/AbstractStringBuilder.append(I)Ljava/lang/AbstractStringBuilder; : labels [] -/
theorem k551 {d : Nat} {x0 : Nat} {x1 : Int32} {σ : cm_S} {Q : cm_O → Prop} (hd : 2 ≤ d) (h0 : cm_tg σ x0 = 28 ∧
wp_c (d - 1) 597 [.int x1] σ (qi fun r1 σ1 => cm_tg σ1 x0 = 28 ∧
wp_c (d - 1) 552 [.ref x0, .int ((cm_I σ x0 3) + r1)] σ1 (qv fun σ2 => cm_tg σ2 x0 = 28 ∧
wp_c (d - 1) 558 [.ref x0] σ2 (qi fun r3 σ3 => (r3 = (zi 0) → (cm_tg σ3 x0 = 28 ∧
wp_c (d - 1) 537 [.int x1, .int (cm_I σ x0 3), .int ((cm_I σ x0 3) + r1), .ref (cm_R σ3 x0 0)] σ3 (qi fun r4 σ4 => cm_tg σ4 x0 = 28 ∧
cm_K cp ≤ x0 ∧
(∀ σ5, σ5 = cm_pI σ4 x0 3 ((cm_I σ x0 3) + r1) → 
Q (false, .ref x0, σ5))))) ∧
(¬ r3 = (zi 0) → (cm_tg σ3 x0 = 28 ∧
wp_c (d - 1) 593 [.int x1, .int ((cm_I σ x0 3) + r1), .ref (cm_R σ3 x0 0)] σ3 (qi fun r6 σ6 => cm_tg σ6 x0 = 28 ∧
cm_K cp ≤ x0 ∧
(∀ σ7, σ7 = cm_pI σ6 x0 3 ((cm_I σ x0 3) + r1) → 
Q (false, .ref x0, σ7))))))))) : wp_c d 551 [.ref x0, .int x1] σ Q :=
  wc_in (by omega) rfl rfl (L := [.ref x0, .int x1, .null, .null]) rfl (have hd : 1 ≤ d - 1 := (by omega); (wr_aload_n rfl rfl rfl (wr_gfI rfl rfl (by decide) ⟨by decide, by decide⟩ h0.1 (wr_istore_n rfl rfl rfl (L2 := [.ref x0, .int x1, .int (cm_I σ x0 3), .null]) rfl (wr_iload_n rfl rfl rfl (wr_iload_n rfl rfl rfl (wr_invsi rfl hd rfl (fun _ => rfl) rfl rfl (wm_i h0.2 fun r1 σ1 h1 => (wr_iadd rfl rfl (wr_istore_n rfl rfl rfl (L2 := [.ref x0, .int x1, .int (cm_I σ x0 3), .int ((cm_I σ x0 3) + r1)]) rfl (wr_aload_n rfl rfl rfl (wr_iload_n rfl rfl rfl (wr_invwv rfl hd rfl (fun _ => rfl) rfl (cr_dt rfl h1.1) rfl (wm_v h1.2 fun σ2 h2 => (wr_aload_n rfl rfl rfl (wr_invwi rfl hd rfl (fun _ => rfl) rfl (cr_dt rfl h2.1) rfl (wm_i h2.2 fun r3 σ3 h3 => (wr_if_eq rfl rfl (cr_ii h3 (fun c4 h5 => (wr_iload_n rfl rfl rfl (wr_iload_n rfl rfl rfl (wr_iload_n rfl rfl rfl (wr_aload_n rfl rfl rfl (wr_gfR rfl rfl (by decide) h5.1 (wr_invsi rfl hd rfl (fun _ => rfl) rfl rfl (wm_i h5.2 fun r4 σ4 h6 => (wr_pop rfl rfl rfl (wr_aload_n rfl rfl rfl (wr_iload_n rfl rfl rfl (wr_pfI rfl rfl (by decide) ⟨by decide, by decide⟩ h6.1 h6.2.1 rfl (wr_aload_n rfl rfl rfl (wr_areturn rfl (h6.2.2 _ rfl))))))))))))))) (fun c7 h8 => (wr_iload_n rfl rfl rfl (wr_iload_n rfl rfl rfl (wr_aload_n rfl rfl rfl (wr_gfR rfl rfl (by decide) h8.1 (wr_invsi rfl hd rfl (fun _ => rfl) rfl rfl (wm_i h8.2 fun r6 σ6 h9 => (wr_pop rfl rfl rfl (wr_goto rfl (wr_aload_n rfl rfl rfl (wr_iload_n rfl rfl rfl (wr_pfI rfl rfl (by decide) ⟨by decide, by decide⟩ h9.1 h9.2.1 rfl (wr_aload_n rfl rfl rfl (wr_areturn rfl (h9.2.2 _ rfl))))))))))))))))))))))))))))))))))
/-- java/lang/AbstractStringBuilder.ensureCapacityInternal(I)V : labels [] -/
theorem k552 {d : Nat} {x0 : Nat} {x1 : Int32} {σ : cm_S} {Q : cm_O → Prop} (hd : 2 ≤ d) (h0 : cm_tg σ x0 = 28 ∧
100 < cm_tg σ (cm_R σ x0 0) ∧
((zi 0) < (x1 - ((Int32.ofNat (cm_ln σ (cm_R σ x0 0))) >>> ((cm_I σ x0 1) &&& 31))) → (wp_c (d - 1) 560 [.ref x0, .int x1] σ (qi fun r1 σ1 => cm_tg σ1 x0 = 28 ∧
wp_c (d - 1) 585 [.ref (cm_R σ x0 0), .int (r1 <<< ((cm_I σ1 x0 1) &&& 31))] σ1 (qr fun r2 σ2 => cm_tg σ2 x0 = 28 ∧
cm_K cp ≤ x0 ∧
(∀ σ3, σ3 = cm_pR σ2 x0 0 r2 → 
Q (false, .int 0, σ3)))))) ∧
(¬ (zi 0) < (x1 - ((Int32.ofNat (cm_ln σ (cm_R σ x0 0))) >>> ((cm_I σ x0 1) &&& 31))) → (Q (false, .int 0, σ)))) : wp_c d 552 [.ref x0, .int x1] σ Q :=
  wc_in (by omega) rfl rfl (L := [.ref x0, .int x1, .null]) rfl (have hd : 1 ≤ d - 1 := (by omega); (wr_aload_n rfl rfl rfl (wr_gfR rfl rfl (by decide) h0.1 (wr_arraylength rfl rfl h0.2.1 (wr_aload_n rfl rfl rfl (wr_gfI rfl rfl (by decide) ⟨by decide, by decide⟩ h0.1 (wr_ishr rfl rfl (wr_istore_n rfl rfl rfl (L2 := [.ref x0, .int x1, .int ((Int32.ofNat (cm_ln σ (cm_R σ x0 0))) >>> ((cm_I σ x0 1) &&& 31))]) rfl (wr_iload_n rfl rfl rfl (wr_iload_n rfl rfl rfl (wr_isub rfl rfl (wr_if_le rfl rfl (cr_ii h0.2.2 (fun c1 h2 => (wr_aload_n rfl rfl rfl (wr_aload_n rfl rfl rfl (wr_gfR rfl rfl (by decide) h0.1 (wr_aload_n rfl rfl rfl (wr_iload_n rfl rfl rfl (wr_invwi rfl hd rfl (fun _ => rfl) rfl (cr_dt rfl h0.1) rfl (wm_i h2 fun r1 σ1 h3 => (wr_aload_n rfl rfl rfl (wr_gfI rfl rfl (by decide) ⟨by decide, by decide⟩ h3.1 (wr_ishl rfl rfl (wr_invsr rfl hd rfl (fun _ => rfl) rfl rfl (wm_r h3.2 fun r2 σ2 h4 => (wr_pfR rfl rfl (by decide) h4.1 h4.2.1 (wr_return rfl (h4.2.2 _ rfl)))))))))))))))) (fun c5 h6 => (wr_return rfl h6)))))))))))))))
/-- java/lang/AbstractStringBuilder.getValue()[B : labels [] -/
theorem k553 {d : Nat} {x0 : Nat} {σ : cm_S} {Q : cm_O → Prop} (hd : 1 ≤ d) (h0 : cm_tg σ x0 = 28 ∧
Q (false, .ref (cm_R σ x0 0), σ)) : wp_c d 553 [.ref x0] σ Q :=
  wc_in (by omega) rfl rfl (L := [.ref x0]) rfl ((wr_aload_n rfl rfl rfl (wr_gfR rfl rfl (by decide) h0.1 (wr_areturn rfl h0.2))))
/-- java/lang/AbstractStringBuilder.inflate()V : labels [] -/
theorem k554 {d : Nat} {x0 : Nat} {σ : cm_S} {Q : cm_O → Prop} (hd : 2 ≤ d) (h0 : cm_tg σ x0 = 28 ∧
wp_c (d - 1) 558 [.ref x0] σ (qi fun r1 σ1 => (r1 = (zi 0) → (Q (false, .int 0, σ1))) ∧
(¬ r1 = (zi 0) → (cm_tg σ1 x0 = 28 ∧
100 < cm_tg σ1 (cm_R σ1 x0 0) ∧
wp_c (d - 1) 543 [.int (Int32.ofNat (cm_ln σ1 (cm_R σ1 x0 0)))] σ1 (qr fun r2 σ2 => cm_tg σ2 x0 = 28 ∧
wp_c (d - 1) 525 [.ref (cm_R σ2 x0 0), .int (zi 0), .ref r2, .int (zi 0), .int (cm_I σ2 x0 3)] σ2 (qv fun σ3 => cm_tg σ3 x0 = 28 ∧
cm_K cp ≤ x0 ∧
(∀ σ4, σ4 = cm_pR σ3 x0 0 r2 → 
∀ σ5, σ5 = cm_pI σ4 x0 1 (zi 1) → 
Q (false, .int 0, σ5)))))))) : wp_c d 554 [.ref x0] σ Q :=
  wc_in (by omega) rfl rfl (L := [.ref x0, .null]) rfl (have hd : 1 ≤ d - 1 := (by omega); (wr_aload_n rfl rfl rfl (wr_invwi rfl hd rfl (fun _ => rfl) rfl (cr_dt rfl h0.1) rfl (wm_i h0.2 fun r1 σ1 h1 => (wr_if_ne rfl rfl (cr_ii h1 (fun c2 h3 => (wr_return rfl h3)) (fun c4 h5 => (wr_aload_n rfl rfl rfl (wr_gfR rfl rfl (by decide) h5.1 (wr_arraylength rfl rfl h5.2.1 (wr_invsr rfl hd rfl (fun _ => rfl) rfl rfl (wm_r h5.2.2 fun r2 σ2 h6 => (wr_astore_n rfl rfl rfl (L2 := [.ref x0, .ref r2]) rfl (wr_aload_n rfl rfl rfl (wr_gfR rfl rfl (by decide) h6.1 (wr_iconst rfl rfl (wr_aload_n rfl rfl rfl (wr_iconst rfl rfl (wr_aload_n rfl rfl rfl (wr_gfI rfl rfl (by decide) ⟨by decide, by decide⟩ h6.1 (wr_invsv rfl hd rfl (fun _ => rfl) rfl rfl (wm_v h6.2 fun σ3 h7 => (wr_aload_n rfl rfl rfl (wr_aload_n rfl rfl rfl (wr_pfR rfl rfl (by decide) h7.1 h7.2.1 (wr_aload_n rfl rfl rfl (wr_iconst rfl rfl (wr_pfI rfl rfl (by decide) ⟨by decide, by decide⟩ h7.1 h7.2.1 (by decide) (wr_return rfl ((h7.2.2 _ rfl) _ rfl))))))))))))))))))))))))))))))
/-- java/lang/AbstractStringBuilder.inflateIfNeededFor(Ljava/lang/String;)V : labels [] -/
theorem k555 {d : Nat} {x0 : Nat} {x1 : Nat} {σ : cm_S} {Q : cm_O → Prop} (hd : 2 ≤ d) (h0 : cm_tg σ x0 = 28 ∧
cm_tg σ x1 = 29 ∧
wp_c (d - 1) 511 [.ref x1] σ (qi fun r1 σ1 => ((cm_I σ x0 1) = r1 → (Q (false, .int 0, σ1))) ∧
(¬ (cm_I σ x0 1) = r1 → (cm_tg σ1 x0 = 28 ∧
wp_c (d - 1) 554 [.ref x0] σ1 (qv fun σ2 => Q (false, .int 0, σ2)))))) : wp_c d 555 [.ref x0, .ref x1] σ Q :=
  wc_in (by omega) rfl rfl (L := [.ref x0, .ref x1]) rfl (have hd : 1 ≤ d - 1 := (by omega); (wr_getstatic rfl (w := .int (zi 1)) rfl rfl (wr_if_eq rfl rfl (cr_F (by decide) (wr_aload_n rfl rfl rfl (wr_gfI rfl rfl (by decide) ⟨by decide, by decide⟩ h0.1 (wr_aload_n rfl rfl rfl (wr_invwi rfl hd rfl (fun _ => rfl) rfl (cr_dt rfl h0.2.1) rfl (wm_i h0.2.2 fun r1 σ1 h1 => (wr_icmp_eq rfl rfl (cr_ii h1 (fun c2 h3 => (wr_return rfl h3)) (fun c4 h5 => (wr_aload_n rfl rfl rfl (wr_invwv rfl hd rfl (fun _ => rfl) rfl (cr_dt rfl h5.1) rfl (wm_v h5.2 fun σ2 h6 => (wr_return rfl h6))))))))))))))))
/-- java/lang/AbstractStringBuilder.<init>(I)V : labels [] -/
theorem k556 {d : Nat} {x0 : Nat} {x1 : Int32} {σ : cm_S} {Q : cm_O → Prop} (hd : 2 ≤ d) (h0 : cm_tg σ x0 ≠ 0 ∧
(0 ≤ x1.toInt ∧ x1.toInt ≤ 60000000) ∧
(∀ σ1, σ1 = cm_al σ 103 (cm_ix x1) → 
cm_tg σ1 x0 = 28 ∧
cm_K cp ≤ x0 ∧
(∀ σ2, σ2 = cm_pR σ1 x0 0 (cm_nx σ) → 
∀ σ3, σ3 = cm_pI σ2 x0 1 (zi 0) → 
Q (false, .int 0, σ3)))) : wp_c d 556 [.ref x0, .int x1] σ Q :=
  wc_in (by omega) rfl rfl (L := [.ref x0, .int x1]) rfl (have hd : 1 ≤ d - 1 := (by omega); (wr_aload_n rfl rfl rfl (wr_objinit rfl hd rfl rfl h0.1 (wr_getstatic rfl (w := .int (zi 1)) rfl rfl (wr_if_eq rfl rfl (cr_F (by decide) (wr_aload_n rfl rfl rfl (wr_iload_n rfl rfl rfl (wr_newarray rfl rfl h0.2.1 (wr_pfR rfl rfl (by decide) (h0.2.2 _ rfl).1 (h0.2.2 _ rfl).2.1 (wr_aload_n rfl rfl rfl (wr_iconst rfl rfl (wr_pfI rfl rfl (by decide) ⟨by decide, by decide⟩ (h0.2.2 _ rfl).1 (h0.2.2 _ rfl).2.1 (by decide) (wr_goto rfl (wr_return rfl (((h0.2.2 _ rfl).2.2 _ rfl) _ rfl))))))))))))))))
/-- java/lang/AbstractStringBuilder.<init>(Ljava/lang/String;)V : labels [24] -/
theorem k557 {d : Nat} {x0 : Nat} {x1 : Nat} {σ : cm_S} {Q : cm_O → Prop} (hd : 2 ≤ d) (h0 : cm_tg σ x0 ≠ 0 ∧
cm_tg σ x1 = 29 ∧
wp_c (d - 1) 520 [.ref x1] σ (qi fun r1 σ1 => (r1 < (zi 2147483631) → (wp_r (d - 1) 557 (24, [.ref x0, .ref x1, .int r1, .null, .null], [.int (r1 + (zi 16))], σ1) Q)) ∧
(¬ r1 < (zi 2147483631) → (wp_r (d - 1) 557 (24, [.ref x0, .ref x1, .int r1, .null, .null], [.int (zi 2147483647)], σ1) Q)))) : wp_c d 557 [.ref x0, .ref x1] σ Q :=
  wc_in (by omega) rfl rfl (L := [.ref x0, .ref x1, .null, .null, .null]) rfl (have hd : 1 ≤ d - 1 := (by omega); (wr_aload_n rfl rfl rfl (wr_objinit rfl hd rfl rfl h0.1 (wr_aload_n rfl rfl rfl (wr_invwi rfl hd rfl (fun _ => rfl) rfl (cr_dt rfl h0.2.1) rfl (wm_i h0.2.2 fun r1 σ1 h1 => (wr_istore_n rfl rfl rfl (L2 := [.ref x0, .ref x1, .int r1, .null, .null]) rfl (wr_iload_n rfl rfl rfl (wr_ldc rfl (w := .int (zi 2147483631)) rfl rfl (wr_icmp_ge rfl rfl (cr_ii h1 (fun c2 h3 => (wr_iload_n rfl rfl rfl (wr_bipush (a := zi 16) rfl rfl rfl (wr_iadd rfl rfl (wr_goto rfl h3))))) (fun c4 h5 => (wr_ldc rfl (w := .int (zi 2147483647)) rfl rfl h5)))))))))))))
theorem k557_24 {d : Nat} {x0 : Nat} {x1 : Nat} {x2 : Int32} {x3 : Value} {x4 : Value} {s0 : Int32} {σ : cm_S} {Q : cm_O → Prop} (hd : 1 ≤ d) (h0 : cm_tg σ x1 = 29 ∧
wp_c d 511 [.ref x1] σ (qi fun r1 σ1 => cm_tg σ1 x0 = 28 ∧
cm_K cp ≤ x0 ∧
cm_fit 4 r1 = true ∧
(∀ σ2, σ2 = cm_pI σ1 x0 1 r1 → 
(r1 = (zi 0) → ((0 ≤ s0.toInt ∧ s0.toInt ≤ 60000000) ∧
(∀ σ3, σ3 = cm_al σ2 103 (cm_ix s0) → 
cm_tg σ3 x0 = 28 ∧
(∀ σ4, σ4 = cm_pR σ3 x0 0 (cm_nx σ2) → 
wp_c d 565 [.ref x0, .ref x1] σ4 (qr fun r5 σ5 => Q (false, .int 0, σ5)))))) ∧
(¬ r1 = (zi 0) → (wp_c d 543 [.int s0] σ2 (qr fun r6 σ6 => cm_tg σ6 x0 = 28 ∧
(∀ σ7, σ7 = cm_pR σ6 x0 0 r6 → 
wp_c d 565 [.ref x0, .ref x1] σ7 (qr fun r8 σ8 => Q (false, .int 0, σ8))))))))) : wp_r d 557 (24, [.ref x0, .ref x1, .int x2, x3, x4], [.int s0], σ) Q :=
  (wr_istore_n rfl rfl rfl (L2 := [.ref x0, .ref x1, .int x2, .int s0, x4]) rfl (wr_aload_n rfl rfl rfl (wr_invwi rfl hd rfl (fun _ => rfl) rfl (cr_dt rfl h0.1) rfl (wm_i h0.2 fun r1 σ1 h1 => (wr_istore rfl rfl rfl (L2 := [.ref x0, .ref x1, .int x2, .int s0, .int r1]) rfl (wr_aload_n rfl rfl rfl (wr_iload rfl rfl rfl (wr_pfI rfl rfl (by decide) ⟨by decide, by decide⟩ h1.1 h1.2.1 h1.2.2.1 (wr_aload_n rfl rfl rfl (wr_iload rfl rfl rfl (wr_if_ne rfl rfl (cr_ii (h1.2.2.2 _ rfl) (fun c2 h3 => (wr_iload_n rfl rfl rfl (wr_newarray rfl rfl h3.1 (wr_goto rfl (wr_pfR rfl rfl (by decide) (h3.2 _ rfl).1 h1.2.1 (wr_aload_n rfl rfl rfl (wr_aload_n rfl rfl rfl (wr_invwr rfl hd rfl (fun _ => rfl) rfl (cr_dt rfl (h3.2 _ rfl).1) rfl (wm_r ((h3.2 _ rfl).2 _ rfl) fun r5 σ5 h4 => (wr_pop rfl rfl rfl (wr_return rfl h4))))))))))) (fun c5 h6 => (wr_iload_n rfl rfl rfl (wr_invsr rfl hd rfl (fun _ => rfl) rfl rfl (wm_r h6 fun r6 σ6 h7 => (wr_pfR rfl rfl (by decide) h7.1 h1.2.1 (wr_aload_n rfl rfl rfl (wr_aload_n rfl rfl rfl (wr_invwr rfl hd rfl (fun _ => rfl) rfl (cr_dt rfl h7.1) rfl (wm_r (h7.2 _ rfl) fun r8 σ8 h8 => (wr_pop rfl rfl rfl (wr_return rfl h8)))))))))))))))))))))))
/-- java/lang/AbstractStringBuilder.isLatin1()Z : labels [] -/
theorem k558 {d : Nat} {x0 : Nat} {σ : cm_S} {Q : cm_O → Prop} (hd : 1 ≤ d) (h0 : cm_tg σ x0 = 28 ∧
((cm_I σ x0 1) = (zi 0) → (Q (false, .int (zi 1), σ))) ∧
(¬ (cm_I σ x0 1) = (zi 0) → (Q (false, .int (zi 0), σ)))) : wp_c d 558 [.ref x0] σ Q :=
  wc_in (by omega) rfl rfl (L := [.ref x0]) rfl ((wr_getstatic rfl (w := .int (zi 1)) rfl rfl (wr_if_eq rfl rfl (cr_F (by decide) (wr_aload_n rfl rfl rfl (wr_gfI rfl rfl (by decide) ⟨by decide, by decide⟩ h0.1 (wr_if_ne rfl rfl (cr_ii h0.2 (fun c1 h2 => (wr_iconst rfl rfl (wr_goto rfl (wr_ireturn rfl (by decide) h2)))) (fun c3 h4 => (wr_iconst rfl rfl (wr_ireturn rfl (by decide) h4)))))))))))
/-- java/lang/AbstractStringBuilder.length()I : labels [] -/
theorem k559 {d : Nat} {x0 : Nat} {σ : cm_S} {Q : cm_O → Prop} (hd : 1 ≤ d) (h0 : cm_tg σ x0 = 28 ∧
Q (false, .int (cm_I σ x0 3), σ)) : wp_c d 559 [.ref x0] σ Q :=
  wc_in (by omega) rfl rfl (L := [.ref x0]) rfl ((wr_aload_n rfl rfl rfl (wr_gfI rfl rfl (by decide) ⟨by decide, by decide⟩ h0.1 (wr_ireturn rfl rfl h0.2))))
/-- java/lang/AbstractStringBuilder.newCapacity(I)I : labels [] -/
theorem k560 {d : Nat} {x0 : Nat} {x1 : Int32} {σ : cm_S} {Q : cm_O → Prop} (hd : 2 ≤ d) (h0 : cm_tg σ x0 = 28 ∧
100 < cm_tg σ (cm_R σ x0 0) ∧
wp_c (d - 1) 575 [.int (Int32.ofNat (cm_ln σ (cm_R σ x0 0))), .int ((x1 <<< ((cm_I σ x0 1) &&& 31)) - (Int32.ofNat (cm_ln σ (cm_R σ x0 0)))), .int ((Int32.ofNat (cm_ln σ (cm_R σ x0 0))) + ((zi 2) <<< ((cm_I σ x0 1) &&& 31)))] σ (qi fun r1 σ1 => (r1 = (zi 2147483647) → (False)) ∧
(¬ r1 = (zi 2147483647) → (cm_tg σ1 x0 = 28 ∧
Q (false, .int (r1 >>> ((cm_I σ1 x0 1) &&& 31)), σ1))))) : wp_c d 560 [.ref x0, .int x1] σ Q :=
  wc_in (by omega) rfl rfl (L := [.ref x0, .int x1, .null, .null, .null, .null]) rfl (have hd : 1 ≤ d - 1 := (by omega); (wr_aload_n rfl rfl rfl (wr_gfR rfl rfl (by decide) h0.1 (wr_arraylength rfl rfl h0.2.1 (wr_istore_n rfl rfl rfl (L2 := [.ref x0, .int x1, .int (Int32.ofNat (cm_ln σ (cm_R σ x0 0))), .null, .null, .null]) rfl (wr_iload_n rfl rfl rfl (wr_aload_n rfl rfl rfl (wr_gfI rfl rfl (by decide) ⟨by decide, by decide⟩ h0.1 (wr_ishl rfl rfl (wr_istore_n rfl rfl rfl (L2 := [.ref x0, .int x1, .int (Int32.ofNat (cm_ln σ (cm_R σ x0 0))), .int (x1 <<< ((cm_I σ x0 1) &&& 31)), .null, .null]) rfl (wr_iload_n rfl rfl rfl (wr_iload_n rfl rfl rfl (wr_isub rfl rfl (wr_istore rfl rfl rfl (L2 := [.ref x0, .int x1, .int (Int32.ofNat (cm_ln σ (cm_R σ x0 0))), .int (x1 <<< ((cm_I σ x0 1) &&& 31)), .int ((x1 <<< ((cm_I σ x0 1) &&& 31)) - (Int32.ofNat (cm_ln σ (cm_R σ x0 0)))), .null]) rfl (wr_iload_n rfl rfl rfl (wr_iload rfl rfl rfl (wr_iload_n rfl rfl rfl (wr_iconst rfl rfl (wr_aload_n rfl rfl rfl (wr_gfI rfl rfl (by decide) ⟨by decide, by decide⟩ h0.1 (wr_ishl rfl rfl (wr_iadd rfl rfl (wr_invsi rfl hd rfl (fun _ => rfl) rfl rfl (wm_i h0.2.2 fun r1 σ1 h1 => (wr_istore rfl rfl rfl (L2 := [.ref x0, .int x1, .int (Int32.ofNat (cm_ln σ (cm_R σ x0 0))), .int (x1 <<< ((cm_I σ x0 1) &&& 31)), .int ((x1 <<< ((cm_I σ x0 1) &&& 31)) - (Int32.ofNat (cm_ln σ (cm_R σ x0 0)))), .int r1]) rfl (wr_iload rfl rfl rfl (wr_ldc rfl (w := .int (zi 2147483647)) rfl rfl (wr_icmp_ne rfl rfl (cr_ii h1 (fun c2 h3 => (False.elim h3)) (fun c4 h5 => (wr_iload rfl rfl rfl (wr_aload_n rfl rfl rfl (wr_gfI rfl rfl (by decide) ⟨by decide, by decide⟩ h5.1 (wr_ishr rfl rfl (wr_ireturn rfl rfl h5.2)))))))))))))))))))))))))))))))))))
/-- java/lang/AbstractStringBuilder.putStringAt(ILjava/lang/String;)V : labels [] -/
theorem k561 {d : Nat} {x0 : Nat} {x1 : Int32} {x2 : Nat} {σ : cm_S} {Q : cm_O → Prop} (hd : 2 ≤ d) (h0 : cm_tg σ x0 = 28 ∧
wp_c (d - 1) 555 [.ref x0, .ref x2] σ (qv fun σ1 => cm_tg σ1 x0 = 28 ∧
cm_tg σ1 x2 = 29 ∧
wp_c (d - 1) 513 [.ref x2, .ref (cm_R σ1 x0 0), .int x1, .int (cm_I σ1 x0 1)] σ1 (qv fun σ2 => Q (false, .int 0, σ2)))) : wp_c d 561 [.ref x0, .int x1, .ref x2] σ Q :=
  wc_in (by omega) rfl rfl (L := [.ref x0, .int x1, .ref x2]) rfl (have hd : 1 ≤ d - 1 := (by omega); (wr_aload_n rfl rfl rfl (wr_aload_n rfl rfl rfl (wr_invwv rfl hd rfl (fun _ => rfl) rfl (cr_dt rfl h0.1) rfl (wm_v h0.2 fun σ1 h1 => (wr_aload_n rfl rfl rfl (wr_aload_n rfl rfl rfl (wr_gfR rfl rfl (by decide) h1.1 (wr_iload_n rfl rfl rfl (wr_aload_n rfl rfl rfl (wr_gfI rfl rfl (by decide) ⟨by decide, by decide⟩ h1.1 (wr_invwv rfl hd rfl (fun _ => rfl) rfl (cr_dt rfl h1.2.1) rfl (wm_v h1.2.2 fun σ2 h2 => (wr_return rfl h2))))))))))))))
/-- java/lang/StringBuilder.append(C)Ljava/lang/StringBuilder; : labels [] -/
theorem k562 {d : Nat} {x0 : Nat} {x1 : Int32} {σ : cm_S} {Q : cm_O → Prop} (hd : 2 ≤ d) (h0 : (cm_tg σ x0 ≠ 0 ∧ cm_tg σ x0 < 60) ∧
wp_c (d - 1) 548 [.ref x0, .int x1] σ (qr fun r1 σ1 => Q (false, .ref x0, σ1))) : wp_c d 562 [.ref x0, .int x1] σ Q :=
  wc_in (by omega) rfl rfl (L := [.ref x0, .int x1]) rfl (have hd : 1 ≤ d - 1 := (by omega); (wr_aload_n rfl rfl rfl (wr_iload_n rfl rfl rfl (wr_invpr rfl hd rfl (fun _ => rfl) rfl h0.1 rfl (wm_r h0.2 fun r1 σ1 h1 => (wr_pop rfl rfl rfl (wr_aload_n rfl rfl rfl (wr_areturn rfl h1))))))))
/-- java/lang/StringBuilder.append(Ljava/lang/String;)Ljava/lang/StringBuilder; : labels [] -/
theorem k563 {d : Nat} {x0 : Nat} {x1 : Nat} {σ : cm_S} {Q : cm_O → Prop} (hd : 2 ≤ d) (h0 : (cm_tg σ x0 ≠ 0 ∧ cm_tg σ x0 < 60) ∧
wp_c (d - 1) 550 [.ref x0, .ref x1] σ (qr fun r1 σ1 => Q (false, .ref x0, σ1))) : wp_c d 563 [.ref x0, .ref x1] σ Q :=
  wc_in (by omega) rfl rfl (L := [.ref x0, .ref x1]) rfl (have hd : 1 ≤ d - 1 := (by omega); (wr_aload_n rfl rfl rfl (wr_aload_n rfl rfl rfl (wr_invpr rfl hd rfl (fun _ => rfl) rfl h0.1 rfl (wm_r h0.2 fun r1 σ1 h1 => (wr_pop rfl rfl rfl (wr_aload_n rfl rfl rfl (wr_areturn rfl h1))))))))
/-- java/lang/StringBuilder.append(I)Ljava/lang/StringBuilder; : labels [] -/
theorem k564 {d : Nat} {x0 : Nat} {x1 : Int32} {σ : cm_S} {Q : cm_O → Prop} (hd : 2 ≤ d) (h0 : (cm_tg σ x0 ≠ 0 ∧ cm_tg σ x0 < 60) ∧
wp_c (d - 1) 551 [.ref x0, .int x1] σ (qr fun r1 σ1 => Q (false, .ref x0, σ1))) : wp_c d 564 [.ref x0, .int x1] σ Q :=
  wc_in (by omega) rfl rfl (L := [.ref x0, .int x1]) rfl (have hd : 1 ≤ d - 1 := (by omega); (wr_aload_n rfl rfl rfl (wr_iload_n rfl rfl rfl (wr_invpr rfl hd rfl (fun _ => rfl) rfl h0.1 rfl (wm_r h0.2 fun r1 σ1 h1 => (wr_pop rfl rfl rfl (wr_aload_n rfl rfl rfl (wr_areturn rfl h1))))))))
/-- java/lang/StringBuilder.append(Ljava/lang/String;)Ljava/lang/AbstractStringBuilder; : labels [] -/
theorem k565 {d : Nat} {x0 : Nat} {x1 : Nat} {σ : cm_S} {Q : cm_O → Prop} (hd : 2 ≤ d) (h0 : cm_tg σ x0 = 28 ∧
wp_c (d - 1) 563 [.ref x0, .ref x1] σ (qr fun r1 σ1 => Q (false, .ref r1, σ1))) : wp_c d 565 [.ref x0, .ref x1] σ Q :=
  wc_in (by omega) rfl rfl (L := [.ref x0, .ref x1]) rfl (have hd : 1 ≤ d - 1 := (by omega); (wr_aload_n rfl rfl rfl (wr_aload_n rfl rfl rfl (wr_invwr rfl hd rfl (fun _ => rfl) rfl (cr_dt rfl h0.1) rfl (wm_r h0.2 fun r1 σ1 h1 => (wr_areturn rfl h1))))))
/-- java/lang/StringBuilder.<init>()V : labels [] -/
theorem k566 {d : Nat} {x0 : Nat} {σ : cm_S} {Q : cm_O → Prop} (hd : 2 ≤ d) (h0 : (cm_tg σ x0 ≠ 0 ∧ cm_tg σ x0 < 60) ∧
wp_c (d - 1) 556 [.ref x0, .int (zi 16)] σ (qv fun σ1 => Q (false, .int 0, σ1))) : wp_c d 566 [.ref x0] σ Q :=
  wc_in (by omega) rfl rfl (L := [.ref x0]) rfl (have hd : 1 ≤ d - 1 := (by omega); (wr_aload_n rfl rfl rfl (wr_bipush (a := zi 16) rfl rfl rfl (wr_invpv rfl hd rfl (fun _ => rfl) rfl h0.1 rfl (wm_v h0.2 fun σ1 h1 => (wr_return rfl h1))))))
/-- java/lang/StringBuilder.<init>(Ljava/lang/String;)V : labels [] -/
theorem k567 {d : Nat} {x0 : Nat} {x1 : Nat} {σ : cm_S} {Q : cm_O → Prop} (hd : 2 ≤ d) (h0 : (cm_tg σ x0 ≠ 0 ∧ cm_tg σ x0 < 60) ∧
wp_c (d - 1) 557 [.ref x0, .ref x1] σ (qv fun σ1 => Q (false, .int 0, σ1))) : wp_c d 567 [.ref x0, .ref x1] σ Q :=
  wc_in (by omega) rfl rfl (L := [.ref x0, .ref x1]) rfl (have hd : 1 ≤ d - 1 := (by omega); (wr_aload_n rfl rfl rfl (wr_aload_n rfl rfl rfl (wr_invpv rfl hd rfl (fun _ => rfl) rfl h0.1 rfl (wm_v h0.2 fun σ1 h1 => (wr_return rfl h1))))))
/-- java/lang/StringBuilder.length()I : labels [] -/
theorem k568 {d : Nat} {x0 : Nat} {σ : cm_S} {Q : cm_O → Prop} (hd : 2 ≤ d) (h0 : (cm_tg σ x0 ≠ 0 ∧ cm_tg σ x0 < 60) ∧
wp_c (d - 1) 559 [.ref x0] σ (qi fun r1 σ1 => Q (false, .int r1, σ1))) : wp_c d 568 [.ref x0] σ Q :=
  wc_in (by omega) rfl rfl (L := [.ref x0]) rfl (have hd : 1 ≤ d - 1 := (by omega); (wr_aload_n rfl rfl rfl (wr_invpi rfl hd rfl (fun _ => rfl) rfl h0.1 rfl (wm_i h0.2 fun r1 σ1 h1 => (wr_ireturn rfl rfl h1)))))
/-- java/lang/StringBuilder.toString()Ljava/lang/String; : labels [] -/
theorem k569 {d : Nat} {x0 : Nat} {σ : cm_S} {Q : cm_O → Prop} (hd : 2 ≤ d) (h0 : ∀ σ1, σ1 = cm_al σ 29 4 → 
wp_c (d - 1) 515 [.ref (cm_nx σ), .ref x0] σ1 (qv fun σ2 => Q (false, .ref (cm_nx σ), σ2))) : wp_c d 569 [.ref x0] σ Q :=
  wc_in (by omega) rfl rfl (L := [.ref x0]) rfl (have hd : 1 ≤ d - 1 := (by omega); (wr_new rfl rfl (wr_dup rfl rfl rfl (wr_aload_n rfl rfl rfl (wr_invpv rfl hd rfl (fun _ => rfl) rfl (cr_60 (tg_new _ _ _) rfl) rfl (wm_v (h0 _ rfl) fun σ2 h1 => (wr_areturn rfl h1)))))))
/-- java/lang/Math.max(II)I : labels [] -/
theorem k579 {d : Nat} {x0 : Int32} {x1 : Int32} {σ : cm_S} {Q : cm_O → Prop} (hd : 1 ≤ d) (h0 : (x0 < x1 → (Q (false, .int x1, σ))) ∧
(¬ x0 < x1 → (Q (false, .int x0, σ)))) : wp_c d 579 [.int x0, .int x1] σ Q :=
  wc_in (by omega) rfl rfl (L := [.int x0, .int x1]) rfl ((wr_iload_n rfl rfl rfl (wr_iload_n rfl rfl rfl (wr_icmp_lt rfl rfl (cr_ii h0 (fun c1 h2 => (wr_iload_n rfl rfl rfl (wr_ireturn rfl rfl h2))) (fun c3 h4 => (wr_iload_n rfl rfl rfl (wr_goto rfl (wr_ireturn rfl rfl h4)))))))))
/-- java/lang/Math.max(JJ)J : labels [] -/
theorem k580 {d : Nat} {x0 : Int64} {x2 : Int64} {σ : cm_S} {Q : cm_O → Prop} (hd : 1 ≤ d) (h0 : (x0 < x2 → (Q (false, .long x2, σ))) ∧
(¬ x0 < x2 → (Q (false, .long x0, σ)))) : wp_c d 580 [.long x0, .long x2] σ Q :=
  wc_in (by omega) rfl rfl (L := [.long x0, .retAddr 0, .long x2, .retAddr 0]) rfl ((wr_lload_n rfl rfl rfl rfl (wr_lload_n rfl rfl rfl rfl (wr_lcmp_lt rfl rfl rfl rfl (cr_ii h0 (fun c1 h2 => (wr_lload_n rfl rfl rfl rfl (wr_lreturn rfl h2))) (fun c3 h4 => (wr_lload_n rfl rfl rfl rfl (wr_goto rfl (wr_lreturn rfl h4)))))))))
/-- java/lang/Math.min(II)I : labels [] -/
theorem k581 {d : Nat} {x0 : Int32} {x1 : Int32} {σ : cm_S} {Q : cm_O → Prop} (hd : 1 ≤ d) (h0 : (x1 < x0 → (Q (false, .int x1, σ))) ∧
(¬ x1 < x0 → (Q (false, .int x0, σ)))) : wp_c d 581 [.int x0, .int x1] σ Q :=
  wc_in (by omega) rfl rfl (L := [.int x0, .int x1]) rfl ((wr_iload_n rfl rfl rfl (wr_iload_n rfl rfl rfl (wr_icmp_gt rfl rfl (cr_ii h0 (fun c1 h2 => (wr_iload_n rfl rfl rfl (wr_ireturn rfl rfl h2))) (fun c3 h4 => (wr_iload_n rfl rfl rfl (wr_goto rfl (wr_ireturn rfl rfl h4)))))))))
/-- java/lang/Math.min(JJ)J : labels [] -/
theorem k582 {d : Nat} {x0 : Int64} {x2 : Int64} {σ : cm_S} {Q : cm_O → Prop} (hd : 1 ≤ d) (h0 : (x2 < x0 → (Q (false, .long x2, σ))) ∧
(¬ x2 < x0 → (Q (false, .long x0, σ)))) : wp_c d 582 [.long x0, .long x2] σ Q :=
  wc_in (by omega) rfl rfl (L := [.long x0, .retAddr 0, .long x2, .retAddr 0]) rfl ((wr_lload_n rfl rfl rfl rfl (wr_lload_n rfl rfl rfl rfl (wr_lcmp_gt rfl rfl rfl rfl (cr_ii h0 (fun c1 h2 => (wr_lload_n rfl rfl rfl rfl (wr_lreturn rfl h2))) (fun c3 h4 => (wr_lload_n rfl rfl rfl rfl (wr_goto rfl (wr_lreturn rfl h4)))))))))
/-- java/lang/Math.multiplyHigh(JJ)J : labels [] -/
theorem k583 {d : Nat} {x0 : Int64} {x2 : Int64} {σ : cm_S} {Q : cm_O → Prop} (hd : 1 ≤ d) (h0 : Q (false, .long ((((x0 >>> ((zi 32).toInt64 &&& 63)) * (x2 >>> ((zi 32).toInt64 &&& 63))) + ((((x0 >>> ((zi 32).toInt64 &&& 63)) * (x2 &&& (zl 4294967295))) + ((((x0 &&& (zl 4294967295)) * (x2 &&& (zl 4294967295))).toUInt64 >>> ((zi 32).toInt64.toUInt64 &&& Int64.toUInt64 63)).toInt64)) >>> ((zi 32).toInt64 &&& 63))) + ((((((x0 >>> ((zi 32).toInt64 &&& 63)) * (x2 &&& (zl 4294967295))) + ((((x0 &&& (zl 4294967295)) * (x2 &&& (zl 4294967295))).toUInt64 >>> ((zi 32).toInt64.toUInt64 &&& Int64.toUInt64 63)).toInt64)) &&& (zl 4294967295)) + ((x0 &&& (zl 4294967295)) * (x2 >>> ((zi 32).toInt64 &&& 63)))) >>> ((zi 32).toInt64 &&& 63))), σ)) : wp_c d 583 [.long x0, .long x2] σ Q :=
  wc_in (by omega) rfl rfl (L := [.long x0, .retAddr 0, .long x2, .retAddr 0, .null, .null, .null, .null, .null, .null, .null, .null, .null, .null, .null, .null, .null, .null, .null, .null]) rfl ((wr_lload_n rfl rfl rfl rfl (wr_bipush (a := zi 32) rfl rfl rfl (wr_lshr rfl rfl (wr_lstore rfl rfl rfl (L2 := [.long x0, .retAddr 0, .long x2, .retAddr 0, .long (x0 >>> ((zi 32).toInt64 &&& 63)), .retAddr 0, .null, .null, .null, .null, .null, .null, .null, .null, .null, .null, .null, .null, .null, .null]) rfl (wr_lload_n rfl rfl rfl rfl (wr_ldc2_w rfl (w := .long (zl 4294967295)) rfl rfl (wr_land rfl rfl (wr_lstore rfl rfl rfl (L2 := [.long x0, .retAddr 0, .long x2, .retAddr 0, .long (x0 >>> ((zi 32).toInt64 &&& 63)), .retAddr 0, .long (x0 &&& (zl 4294967295)), .retAddr 0, .null, .null, .null, .null, .null, .null, .null, .null, .null, .null, .null, .null]) rfl (wr_lload_n rfl rfl rfl rfl (wr_bipush (a := zi 32) rfl rfl rfl (wr_lshr rfl rfl (wr_lstore rfl rfl rfl (L2 := [.long x0, .retAddr 0, .long x2, .retAddr 0, .long (x0 >>> ((zi 32).toInt64 &&& 63)), .retAddr 0, .long (x0 &&& (zl 4294967295)), .retAddr 0, .long (x2 >>> ((zi 32).toInt64 &&& 63)), .retAddr 0, .null, .null, .null, .null, .null, .null, .null, .null, .null, .null]) rfl (wr_lload_n rfl rfl rfl rfl (wr_ldc2_w rfl (w := .long (zl 4294967295)) rfl rfl (wr_land rfl rfl (wr_lstore rfl rfl rfl (L2 := [.long x0, .retAddr 0, .long x2, .retAddr 0, .long (x0 >>> ((zi 32).toInt64 &&& 63)), .retAddr 0, .long (x0 &&& (zl 4294967295)), .retAddr 0, .long (x2 >>> ((zi 32).toInt64 &&& 63)), .retAddr 0, .long (x2 &&& (zl 4294967295)), .retAddr 0, .null, .null, .null, .null, .null, .null, .null, .null]) rfl (wr_lload rfl rfl rfl rfl (wr_lload rfl rfl rfl rfl (wr_lmul rfl rfl (wr_lstore rfl rfl rfl (L2 := [.long x0, .retAddr 0, .long x2, .retAddr 0, .long (x0 >>> ((zi 32).toInt64 &&& 63)), .retAddr 0, .long (x0 &&& (zl 4294967295)), .retAddr 0, .long (x2 >>> ((zi 32).toInt64 &&& 63)), .retAddr 0, .long (x2 &&& (zl 4294967295)), .retAddr 0, .long ((x0 &&& (zl 4294967295)) * (x2 &&& (zl 4294967295))), .retAddr 0, .null, .null, .null, .null, .null, .null]) rfl (wr_lload rfl rfl rfl rfl (wr_lload rfl rfl rfl rfl (wr_lmul rfl rfl (wr_lload rfl rfl rfl rfl (wr_bipush (a := zi 32) rfl rfl rfl (wr_lushr rfl rfl (wr_ladd rfl rfl (wr_lstore rfl rfl rfl (L2 := [.long x0, .retAddr 0, .long x2, .retAddr 0, .long (x0 >>> ((zi 32).toInt64 &&& 63)), .retAddr 0, .long (x0 &&& (zl 4294967295)), .retAddr 0, .long (x2 >>> ((zi 32).toInt64 &&& 63)), .retAddr 0, .long (x2 &&& (zl 4294967295)), .retAddr 0, .long ((x0 &&& (zl 4294967295)) * (x2 &&& (zl 4294967295))), .retAddr 0, .long (((x0 >>> ((zi 32).toInt64 &&& 63)) * (x2 &&& (zl 4294967295))) + ((((x0 &&& (zl 4294967295)) * (x2 &&& (zl 4294967295))).toUInt64 >>> ((zi 32).toInt64.toUInt64 &&& Int64.toUInt64 63)).toInt64)), .retAddr 0, .null, .null, .null, .null]) rfl (wr_lload rfl rfl rfl rfl (wr_ldc2_w rfl (w := .long (zl 4294967295)) rfl rfl (wr_land rfl rfl (wr_lstore rfl rfl rfl (L2 := [.long x0, .retAddr 0, .long x2, .retAddr 0, .long (x0 >>> ((zi 32).toInt64 &&& 63)), .retAddr 0, .long (x0 &&& (zl 4294967295)), .retAddr 0, .long (x2 >>> ((zi 32).toInt64 &&& 63)), .retAddr 0, .long (x2 &&& (zl 4294967295)), .retAddr 0, .long ((x0 &&& (zl 4294967295)) * (x2 &&& (zl 4294967295))), .retAddr 0, .long (((x0 >>> ((zi 32).toInt64 &&& 63)) * (x2 &&& (zl 4294967295))) + ((((x0 &&& (zl 4294967295)) * (x2 &&& (zl 4294967295))).toUInt64 >>> ((zi 32).toInt64.toUInt64 &&& Int64.toUInt64 63)).toInt64)), .retAddr 0, .long ((((x0 >>> ((zi 32).toInt64 &&& 63)) * (x2 &&& (zl 4294967295))) + ((((x0 &&& (zl 4294967295)) * (x2 &&& (zl 4294967295))).toUInt64 >>> ((zi 32).toInt64.toUInt64 &&& Int64.toUInt64 63)).toInt64)) &&& (zl 4294967295)), .retAddr 0, .null, .null]) rfl (wr_lload rfl rfl rfl rfl (wr_bipush (a := zi 32) rfl rfl rfl (wr_lshr rfl rfl (wr_lstore rfl rfl rfl (L2 := [.long x0, .retAddr 0, .long x2, .retAddr 0, .long (x0 >>> ((zi 32).toInt64 &&& 63)), .retAddr 0, .long (x0 &&& (zl 4294967295)), .retAddr 0, .long (x2 >>> ((zi 32).toInt64 &&& 63)), .retAddr 0, .long (x2 &&& (zl 4294967295)), .retAddr 0, .long ((x0 &&& (zl 4294967295)) * (x2 &&& (zl 4294967295))), .retAddr 0, .long (((x0 >>> ((zi 32).toInt64 &&& 63)) * (x2 &&& (zl 4294967295))) + ((((x0 &&& (zl 4294967295)) * (x2 &&& (zl 4294967295))).toUInt64 >>> ((zi 32).toInt64.toUInt64 &&& Int64.toUInt64 63)).toInt64)), .retAddr 0, .long ((((x0 >>> ((zi 32).toInt64 &&& 63)) * (x2 &&& (zl 4294967295))) + ((((x0 &&& (zl 4294967295)) * (x2 &&& (zl 4294967295))).toUInt64 >>> ((zi 32).toInt64.toUInt64 &&& Int64.toUInt64 63)).toInt64)) &&& (zl 4294967295)), .retAddr 0, .long ((((x0 >>> ((zi 32).toInt64 &&& 63)) * (x2 &&& (zl 4294967295))) + ((((x0 &&& (zl 4294967295)) * (x2 &&& (zl 4294967295))).toUInt64 >>> ((zi 32).toInt64.toUInt64 &&& Int64.toUInt64 63)).toInt64)) >>> ((zi 32).toInt64 &&& 63)), .retAddr 0]) rfl (wr_lload rfl rfl rfl rfl (wr_lload rfl rfl rfl rfl (wr_lload rfl rfl rfl rfl (wr_lmul rfl rfl (wr_ladd rfl rfl (wr_lstore rfl rfl rfl (L2 := [.long x0, .retAddr 0, .long x2, .retAddr 0, .long (x0 >>> ((zi 32).toInt64 &&& 63)), .retAddr 0, .long (x0 &&& (zl 4294967295)), .retAddr 0, .long (x2 >>> ((zi 32).toInt64 &&& 63)), .retAddr 0, .long (x2 &&& (zl 4294967295)), .retAddr 0, .long ((x0 &&& (zl 4294967295)) * (x2 &&& (zl 4294967295))), .retAddr 0, .long (((x0 >>> ((zi 32).toInt64 &&& 63)) * (x2 &&& (zl 4294967295))) + ((((x0 &&& (zl 4294967295)) * (x2 &&& (zl 4294967295))).toUInt64 >>> ((zi 32).toInt64.toUInt64 &&& Int64.toUInt64 63)).toInt64)), .retAddr 0, .long (((((x0 >>> ((zi 32).toInt64 &&& 63)) * (x2 &&& (zl 4294967295))) + ((((x0 &&& (zl 4294967295)) * (x2 &&& (zl 4294967295))).toUInt64 >>> ((zi 32).toInt64.toUInt64 &&& Int64.toUInt64 63)).toInt64)) &&& (zl 4294967295)) + ((x0 &&& (zl 4294967295)) * (x2 >>> ((zi 32).toInt64 &&& 63)))), .retAddr 0, .long ((((x0 >>> ((zi 32).toInt64 &&& 63)) * (x2 &&& (zl 4294967295))) + ((((x0 &&& (zl 4294967295)) * (x2 &&& (zl 4294967295))).toUInt64 >>> ((zi 32).toInt64.toUInt64 &&& Int64.toUInt64 63)).toInt64)) >>> ((zi 32).toInt64 &&& 63)), .retAddr 0]) rfl (wr_lload rfl rfl rfl rfl (wr_lload rfl rfl rfl rfl (wr_lmul rfl rfl (wr_lload rfl rfl rfl rfl (wr_ladd rfl rfl (wr_lload rfl rfl rfl rfl (wr_bipush (a := zi 32) rfl rfl rfl (wr_lshr rfl rfl (wr_ladd rfl rfl (wr_lreturn rfl h0)))))))))))))))))))))))))))))))))))))))))))))))))))))
/-- java/util/Arrays.checkLength(II)V : labels [] -/
theorem k584 {d : Nat} {x0 : Int32} {x1 : Int32} {σ : cm_S} {Q : cm_O → Prop} (hd : 1 ≤ d) (h0 : (x1 < x0 → (False)) ∧
(¬ x1 < x0 → (Q (false, .int 0, σ)))) : wp_c d 584 [.int x0, .int x1] σ Q :=
  wc_in (by omega) rfl rfl (L := [.int x0, .int x1]) rfl ((wr_iload_n rfl rfl rfl (wr_iload_n rfl rfl rfl (wr_icmp_ge rfl rfl (cr_ii h0 (fun c1 h2 => (False.elim h2)) (fun c3 h4 => (wr_return rfl h4)))))))
/-- java/util/Arrays.copyOf([BI)[B : labels [] -/
theorem k585 {d : Nat} {x0 : Nat} {x1 : Int32} {σ : cm_S} {Q : cm_O → Prop} (hd : 2 ≤ d) (h0 : 100 < cm_tg σ x0 ∧
(x1 = (Int32.ofNat (cm_ln σ x0)) → (cm_tg σ x0 = 103 ∧ cm_ln σ x0 ≤ 60000000 ∧ cm_K cp ≤ x0 ∧
(∀ σ1, σ1 = cm_cl σ 103 x0 → 
(cm_tg σ1 (cm_nx σ) = 103 ∧ 322 ≤ (cm_nx σ)) ∧
Q (false, .ref (cm_nx σ), σ1)))) ∧
(¬ x1 = (Int32.ofNat (cm_ln σ x0)) → ((0 ≤ x1.toInt ∧ x1.toInt ≤ 60000000) ∧
(∀ σ2, σ2 = cm_al σ 103 (cm_ix x1) → 
100 < cm_tg σ2 x0 ∧
wp_c (d - 1) 581 [.int (Int32.ofNat (cm_ln σ2 x0)), .int x1] σ2 (qi fun r3 σ3 => cm_cw σ3 x0 (cm_nx σ) (zi 0) (zi 0) r3 (fun σ4 => Q (false, .ref (cm_nx σ), σ4))))))) : wp_c d 585 [.ref x0, .int x1] σ Q :=
  wc_in (by omega) rfl rfl (L := [.ref x0, .int x1, .null]) rfl (have hd : 1 ≤ d - 1 := (by omega); (wr_iload_n rfl rfl rfl (wr_aload_n rfl rfl rfl (wr_arraylength rfl rfl h0.1 (wr_icmp_ne rfl rfl (cr_ii h0.2 (fun c1 h2 => (wr_aload_n rfl rfl rfl (wr_clone rfl hd rfl rfl h2.1 rfl (Or.inl h2.2.2.1) h2.2.1 (wr_checkcastB rfl rfl (h2.2.2.2 _ rfl).1 (wr_areturn rfl (h2.2.2.2 _ rfl).2))))) (fun c3 h4 => (wr_iload_n rfl rfl rfl (wr_newarray rfl rfl h4.1 (wr_astore_n rfl rfl rfl (L2 := [.ref x0, .int x1, .ref (cm_nx σ)]) rfl (wr_aload_n rfl rfl rfl (wr_iconst rfl rfl (wr_aload_n rfl rfl rfl (wr_iconst rfl rfl (wr_aload_n rfl rfl rfl (wr_arraylength rfl rfl (h4.2 _ rfl).1 (wr_iload_n rfl rfl rfl (wr_invsi rfl hd rfl (fun _ => rfl) rfl rfl (wm_i (h4.2 _ rfl).2 fun r3 σ3 h5 => (wr_arraycopy rfl hd rfl rfl (h5.mono (fun σ4 h6 => (wr_aload_n rfl rfl rfl (wr_areturn rfl h6))))))))))))))))))))))))
/-- java/util/Arrays.copyOfRange([BII)[B : labels [] -/
theorem k586 {d : Nat} {x0 : Nat} {x1 : Int32} {x2 : Int32} {σ : cm_S} {Q : cm_O → Prop} (hd : 2 ≤ d) (h0 : (x1 = (zi 0) → (100 < cm_tg σ x0 ∧
(x2 = (Int32.ofNat (cm_ln σ x0)) → (cm_tg σ x0 = 103 ∧ cm_ln σ x0 ≤ 60000000 ∧ cm_K cp ≤ x0 ∧
(∀ σ1, σ1 = cm_cl σ 103 x0 → 
(cm_tg σ1 (cm_nx σ) = 103 ∧ 322 ≤ (cm_nx σ)) ∧
Q (false, .ref (cm_nx σ), σ1)))) ∧
(¬ x2 = (Int32.ofNat (cm_ln σ x0)) → (wp_c (d - 1) 587 [.ref x0, .int x1, .int x2] σ (qr fun r2 σ2 => Q (false, .ref r2, σ2)))))) ∧
(¬ x1 = (zi 0) → (wp_c (d - 1) 587 [.ref x0, .int x1, .int x2] σ (qr fun r3 σ3 => Q (false, .ref r3, σ3))))) : wp_c d 586 [.ref x0, .int x1, .int x2] σ Q :=
  wc_in (by omega) rfl rfl (L := [.ref x0, .int x1, .int x2]) rfl (have hd : 1 ≤ d - 1 := (by omega); (wr_iload_n rfl rfl rfl (wr_if_ne rfl rfl (cr_ii h0 (fun c1 h2 => (wr_iload_n rfl rfl rfl (wr_aload_n rfl rfl rfl (wr_arraylength rfl rfl h2.1 (wr_icmp_eq rfl rfl (cr_ii h2.2 (fun c3 h4 => (wr_aload_n rfl rfl rfl (wr_clone rfl hd rfl rfl h4.1 rfl (Or.inl h4.2.2.1) h4.2.1 (wr_checkcastB rfl rfl (h4.2.2.2 _ rfl).1 (wr_areturn rfl (h4.2.2.2 _ rfl).2))))) (fun c5 h6 => (wr_aload_n rfl rfl rfl (wr_iload_n rfl rfl rfl (wr_iload_n rfl rfl rfl (wr_invsr rfl hd rfl (fun _ => rfl) rfl rfl (wm_r h6 fun r2 σ2 h7 => (wr_areturn rfl h7))))))))))))) (fun c8 h9 => (wr_aload_n rfl rfl rfl (wr_iload_n rfl rfl rfl (wr_iload_n rfl rfl rfl (wr_invsr rfl hd rfl (fun _ => rfl) rfl rfl (wm_r h9 fun r3 σ3 h10 => (wr_areturn rfl h10)))))))))))
/-- java/util/Arrays.copyOfRangeByte([BII)[B : labels [] -/
theorem k587 {d : Nat} {x0 : Nat} {x1 : Int32} {x2 : Int32} {σ : cm_S} {Q : cm_O → Prop} (hd : 2 ≤ d) (h0 : wp_c (d - 1) 584 [.int x1, .int x2] σ (qv fun σ1 => (0 ≤ (x2 - x1).toInt ∧ (x2 - x1).toInt ≤ 60000000) ∧
(∀ σ2, σ2 = cm_al σ1 103 (cm_ix (x2 - x1)) → 
100 < cm_tg σ2 x0 ∧
wp_c (d - 1) 581 [.int ((Int32.ofNat (cm_ln σ2 x0)) - x1), .int (x2 - x1)] σ2 (qi fun r3 σ3 => cm_cw σ3 x0 (cm_nx σ1) x1 (zi 0) r3 (fun σ4 => Q (false, .ref (cm_nx σ1), σ4)))))) : wp_c d 587 [.ref x0, .int x1, .int x2] σ Q :=
  wc_in (by omega) rfl rfl (L := [.ref x0, .int x1, .int x2, .null, .null]) rfl (have hd : 1 ≤ d - 1 := (by omega); (wr_iload_n rfl rfl rfl (wr_iload_n rfl rfl rfl (wr_invsv rfl hd rfl (fun _ => rfl) rfl rfl (wm_v h0 fun σ1 h1 => (wr_iload_n rfl rfl rfl (wr_iload_n rfl rfl rfl (wr_isub rfl rfl (wr_istore_n rfl rfl rfl (L2 := [.ref x0, .int x1, .int x2, .int (x2 - x1), .null]) rfl (wr_iload_n rfl rfl rfl (wr_newarray rfl rfl h1.1 (wr_astore rfl rfl rfl (L2 := [.ref x0, .int x1, .int x2, .int (x2 - x1), .ref (cm_nx σ1)]) rfl (wr_aload_n rfl rfl rfl (wr_iload_n rfl rfl rfl (wr_aload rfl rfl rfl (wr_iconst rfl rfl (wr_aload_n rfl rfl rfl (wr_arraylength rfl rfl (h1.2 _ rfl).1 (wr_iload_n rfl rfl rfl (wr_isub rfl rfl (wr_iload_n rfl rfl rfl (wr_invsi rfl hd rfl (fun _ => rfl) rfl rfl (wm_i (h1.2 _ rfl).2 fun r3 σ3 h2 => (wr_arraycopy rfl hd rfl rfl (h2.mono (fun σ4 h3 => (wr_aload rfl rfl rfl (wr_areturn rfl h3))))))))))))))))))))))))))))
/-- java/util/Arrays.copyOfRange([Ljava/lang/Object;IILjava/lang/Class;)[Ljava/lang/Object; : labels [] -/
theorem k588 {d : Nat} {x0 : Nat} {x1 : Int32} {x2 : Int32} {x3 : Nat} {σ : cm_S} {Q : cm_O → Prop} (hd : 2 ≤ d) (h0 : ((x2 - x1) < (zi 0) → (False)) ∧
(¬ (x2 - x1) < (zi 0) → (cm_ac x3 59 ∧
(x3 = 59 → ((0 ≤ (x2 - x1).toInt ∧ (x2 - x1).toInt ≤ 60000000) ∧
(∀ σ1, σ1 = cm_al σ 105 (cm_ix (x2 - x1)) → 
100 < cm_tg σ1 x0 ∧
wp_c (d - 1) 581 [.int ((Int32.ofNat (cm_ln σ1 x0)) - x1), .int (x2 - x1)] σ1 (qi fun r2 σ2 => cm_cw σ2 x0 (cm_nx σ) x1 (zi 0) r2 (fun σ3 => Q (false, .ref (cm_nx σ), σ3)))))) ∧
(¬ x3 = 59 → (False))))) : wp_c d 588 [.ref x0, .int x1, .int x2, .ref x3] σ Q :=
  wc_in (by omega) rfl rfl (L := [.ref x0, .int x1, .int x2, .ref x3, .null, .null]) rfl (have hd : 1 ≤ d - 1 := (by omega); (wr_iload_n rfl rfl rfl (wr_iload_n rfl rfl rfl (wr_isub rfl rfl (wr_istore rfl rfl rfl (L2 := [.ref x0, .int x1, .int x2, .ref x3, .int (x2 - x1), .null]) rfl (wr_iload rfl rfl rfl (wr_if_ge rfl rfl (cr_ii h0 (fun c1 h2 => (False.elim h2)) (fun c3 h4 => (wr_aload_n rfl rfl rfl (wr_ldc rfl (w := .ref 59) rfl rfl (wr_acmp_ne rfl rfl h4.1 (cr_ii h4.2 (fun c5 h6 => (wr_iload rfl rfl rfl (wr_anewarray rfl rfl h6.1 (wr_goto rfl (wr_astore rfl rfl rfl (L2 := [.ref x0, .int x1, .int x2, .ref x3, .int (x2 - x1), .ref (cm_nx σ)]) rfl (wr_aload_n rfl rfl rfl (wr_iload_n rfl rfl rfl (wr_aload rfl rfl rfl (wr_iconst rfl rfl (wr_aload_n rfl rfl rfl (wr_arraylength rfl rfl (h6.2 _ rfl).1 (wr_iload_n rfl rfl rfl (wr_isub rfl rfl (wr_iload rfl rfl rfl (wr_invsi rfl hd rfl (fun _ => rfl) rfl rfl (wm_i (h6.2 _ rfl).2 fun r2 σ2 h7 => (wr_arraycopy rfl hd rfl rfl (h7.mono (fun σ3 h8 => (wr_aload rfl rfl rfl (wr_areturn rfl h8))))))))))))))))))))) (fun c9 h10 => (wr_aload_n rfl rfl rfl (False.elim h10))))))))))))))))
/-- java/util/Arrays.copyOf([Ljava/lang/Object;I)[Ljava/lang/Object; : labels [] -/
theorem k589 {d : Nat} {x0 : Nat} {x1 : Int32} {σ : cm_S} {Q : cm_O → Prop} (hd : 2 ≤ d) (h0 : cm_tg σ x0 = 105 ∧
wp_c (d - 1) 590 [.ref x0, .int x1, .ref 59] σ (qr fun r1 σ1 => Q (false, .ref r1, σ1))) : wp_c d 589 [.ref x0, .int x1] σ Q :=
  wc_in (by omega) rfl rfl (L := [.ref x0, .int x1]) rfl (have hd : 1 ≤ d - 1 := (by omega); (wr_aload_n rfl rfl rfl (wr_iload_n rfl rfl rfl (wr_aload_n rfl rfl rfl (wr_getClass rfl hd rfl rfl (w := .ref 59) rfl h0.1 (wr_invsr rfl hd rfl (fun _ => rfl) rfl rfl (wm_r h0.2 fun r1 σ1 h1 => (wr_areturn rfl h1))))))))
/-- java/util/Arrays.copyOf([Ljava/lang/Object;ILjava/lang/Class;)[Ljava/lang/Object; : labels [] -/
theorem k590 {d : Nat} {x0 : Nat} {x1 : Int32} {x2 : Nat} {σ : cm_S} {Q : cm_O → Prop} (hd : 2 ≤ d) (h0 : cm_ac x2 59 ∧
(x2 = 59 → ((0 ≤ x1.toInt ∧ x1.toInt ≤ 60000000) ∧
(∀ σ1, σ1 = cm_al σ 105 (cm_ix x1) → 
100 < cm_tg σ1 x0 ∧
wp_c (d - 1) 581 [.int (Int32.ofNat (cm_ln σ1 x0)), .int x1] σ1 (qi fun r2 σ2 => cm_cw σ2 x0 (cm_nx σ) (zi 0) (zi 0) r2 (fun σ3 => Q (false, .ref (cm_nx σ), σ3)))))) ∧
(¬ x2 = 59 → (False))) : wp_c d 590 [.ref x0, .int x1, .ref x2] σ Q :=
  wc_in (by omega) rfl rfl (L := [.ref x0, .int x1, .ref x2, .null]) rfl (have hd : 1 ≤ d - 1 := (by omega); (wr_aload_n rfl rfl rfl (wr_ldc rfl (w := .ref 59) rfl rfl (wr_acmp_ne rfl rfl h0.1 (cr_ii h0.2 (fun c1 h2 => (wr_iload_n rfl rfl rfl (wr_anewarray rfl rfl h2.1 (wr_goto rfl (wr_astore_n rfl rfl rfl (L2 := [.ref x0, .int x1, .ref x2, .ref (cm_nx σ)]) rfl (wr_aload_n rfl rfl rfl (wr_iconst rfl rfl (wr_aload_n rfl rfl rfl (wr_iconst rfl rfl (wr_aload_n rfl rfl rfl (wr_arraylength rfl rfl (h2.2 _ rfl).1 (wr_iload_n rfl rfl rfl (wr_invsi rfl hd rfl (fun _ => rfl) rfl rfl (wm_i (h2.2 _ rfl).2 fun r2 σ2 h3 => (wr_arraycopy rfl hd rfl rfl (h3.mono (fun σ3 h4 => (wr_aload_n rfl rfl rfl (wr_areturn rfl h4))))))))))))))))))) (fun c5 h6 => (wr_aload_n rfl rfl rfl (False.elim h6))))))))
/-- java/util/Arrays.copyOf([JI)[J : labels [] -/
theorem k591 {d : Nat} {x0 : Nat} {x1 : Int32} {σ : cm_S} {Q : cm_O → Prop} (hd : 2 ≤ d) (h0 : 100 < cm_tg σ x0 ∧
(x1 = (Int32.ofNat (cm_ln σ x0)) → (cm_tg σ x0 = 102 ∧ cm_ln σ x0 ≤ 60000000 ∧ cm_K cp ≤ x0 ∧
(∀ σ1, σ1 = cm_cl σ 102 x0 → 
((cm_nx σ) = 0 ∨ cp_cast 19 (cm_tg σ1 (cm_nx σ)) = some true) ∧
Q (false, .ref (cm_nx σ), σ1)))) ∧
(¬ x1 = (Int32.ofNat (cm_ln σ x0)) → ((0 ≤ x1.toInt ∧ x1.toInt ≤ 60000000) ∧
(∀ σ2, σ2 = cm_al σ 102 (cm_ix x1) → 
100 < cm_tg σ2 x0 ∧
wp_c (d - 1) 581 [.int (Int32.ofNat (cm_ln σ2 x0)), .int x1] σ2 (qi fun r3 σ3 => cm_cw σ3 x0 (cm_nx σ) (zi 0) (zi 0) r3 (fun σ4 => Q (false, .ref (cm_nx σ), σ4))))))) : wp_c d 591 [.ref x0, .int x1] σ Q :=
  wc_in (by omega) rfl rfl (L := [.ref x0, .int x1, .null]) rfl (have hd : 1 ≤ d - 1 := (by omega); (wr_iload_n rfl rfl rfl (wr_aload_n rfl rfl rfl (wr_arraylength rfl rfl h0.1 (wr_icmp_ne rfl rfl (cr_ii h0.2 (fun c1 h2 => (wr_aload_n rfl rfl rfl (wr_clone rfl hd rfl rfl h2.1 rfl (Or.inl h2.2.2.1) h2.2.1 (wr_checkcast rfl rfl (h2.2.2.2 _ rfl).1 (wr_areturn rfl (h2.2.2.2 _ rfl).2))))) (fun c3 h4 => (wr_iload_n rfl rfl rfl (wr_newarray rfl rfl h4.1 (wr_astore_n rfl rfl rfl (L2 := [.ref x0, .int x1, .ref (cm_nx σ)]) rfl (wr_aload_n rfl rfl rfl (wr_iconst rfl rfl (wr_aload_n rfl rfl rfl (wr_iconst rfl rfl (wr_aload_n rfl rfl rfl (wr_arraylength rfl rfl (h4.2 _ rfl).1 (wr_iload_n rfl rfl rfl (wr_invsi rfl hd rfl (fun _ => rfl) rfl rfl (wm_i (h4.2 _ rfl).2 fun r3 σ3 h5 => (wr_arraycopy rfl hd rfl rfl (h5.mono (fun σ4 h6 => (wr_aload_n rfl rfl rfl (wr_areturn rfl h6))))))))))))))))))))))))
/-- java/lang/Number.<init>()V : labels [] -/
theorem k592 {d : Nat} {x0 : Nat} {σ : cm_S} {Q : cm_O → Prop} (hd : 2 ≤ d) (h0 : cm_tg σ x0 ≠ 0 ∧
Q (false, .int 0, σ)) : wp_c d 592 [.ref x0] σ Q :=
  wc_in (by omega) rfl rfl (L := [.ref x0]) rfl (have hd : 1 ≤ d - 1 := (by omega); (wr_aload_n rfl rfl rfl (wr_objinit rfl hd rfl rfl h0.1 (wr_return rfl h0.2))))
/-- java/lang/Integer.getChars(II[B)I : labels [22] -/
theorem k593 {d : Nat} {x0 : Int32} {x1 : Int32} {x2 : Nat} {σ : cm_S} {Q : cm_O → Prop} (hd : 1 ≤ d) (h0 : (x0 < (zi 0) → (wp_r (d - 1) 593 (22, [.int x0, .int x1, .ref x2, .null, .null, .int x1, .int (zi 1)], [], σ) Q)) ∧
(¬ x0 < (zi 0) → (wp_r (d - 1) 593 (22, [.int (-x0), .int x1, .ref x2, .null, .null, .int x1, .int (zi 0)], [], σ) Q))) : wp_c d 593 [.int x0, .int x1, .ref x2] σ Q :=
  wc_in (by omega) rfl rfl (L := [.int x0, .int x1, .ref x2, .null, .null, .null, .null]) rfl ((wr_iload_n rfl rfl rfl (wr_istore rfl rfl rfl (L2 := [.int x0, .int x1, .ref x2, .null, .null, .int x1, .null]) rfl (wr_iload_n rfl rfl rfl (wr_if_ge rfl rfl (cr_ii h0 (fun c1 h2 => (wr_iconst rfl rfl (wr_goto rfl (wr_istore rfl rfl rfl (L2 := [.int x0, .int x1, .ref x2, .null, .null, .int x1, .int (zi 1)]) rfl (wr_iload rfl rfl rfl (wr_if_ne rfl rfl (cr_F (by decide) h2))))))) (fun c3 h4 => (wr_iconst rfl rfl (wr_istore rfl rfl rfl (L2 := [.int x0, .int x1, .ref x2, .null, .null, .int x1, .int (zi 0)]) rfl (wr_iload rfl rfl rfl (wr_if_ne rfl rfl (cr_T (by decide) (wr_iload_n rfl rfl rfl (wr_ineg rfl rfl (wr_istore_n rfl rfl rfl (L2 := [.int (-x0), .int x1, .ref x2, .null, .null, .int x1, .int (zi 0)]) rfl h4)))))))))))))))
theorem k593_22 {d : Nat} {x0 : Int32} {x1 : Int32} {x2 : Nat} {x3 : Value} {x4 : Value} {x5 : Int32} {x6 : Int32} {σ : cm_S} {Q : cm_O → Prop} (h0 : ((zi (-100)) < x0 → (cm_tg σ 62 = 103 ∧
cm_in (-x0) (cm_ln σ 62) = true ∧
cm_tg σ x2 = 103 ∧
cm_in (x5 + zi (-1)) (cm_ln σ x2) = true ∧
cm_K cp ≤ x2 ∧
(∀ σ1, σ1 = cm_pI σ x2 (cm_ix (x5 + zi (-1))) (cm_I σ 62 (cm_ix (-x0))).toInt8.toInt32 → 
(x0 < (zi (-9)) → (cm_tg σ1 63 = 103 ∧
cm_in (-x0) (cm_ln σ1 63) = true ∧
cm_in ((x5 + zi (-1)) + zi (-1)) (cm_ln σ1 x2) = true ∧
(∀ σ2, σ2 = cm_pI σ1 x2 (cm_ix ((x5 + zi (-1)) + zi (-1))) (cm_I σ1 63 (cm_ix (-x0))).toInt8.toInt32 → 
(x6 = (zi 0) → (Q (false, .int ((x5 + zi (-1)) + zi (-1)), σ2))) ∧
(¬ x6 = (zi 0) → (cm_in (((x5 + zi (-1)) + zi (-1)) + zi (-1)) (cm_ln σ2 x2) = true ∧
(∀ σ3, σ3 = cm_pI σ2 x2 (cm_ix (((x5 + zi (-1)) + zi (-1)) + zi (-1))) (zi 45).toInt8.toInt32 → 
Q (false, .int (((x5 + zi (-1)) + zi (-1)) + zi (-1)), σ3))))))) ∧
(¬ x0 < (zi (-9)) → ((x6 = (zi 0) → (Q (false, .int (x5 + zi (-1)), σ1))) ∧
(¬ x6 = (zi 0) → (cm_in ((x5 + zi (-1)) + zi (-1)) (cm_ln σ1 x2) = true ∧
(∀ σ4, σ4 = cm_pI σ1 x2 (cm_ix ((x5 + zi (-1)) + zi (-1))) (zi 45).toInt8.toInt32 → 
Q (false, .int ((x5 + zi (-1)) + zi (-1)), σ4))))))))) ∧
(¬ (zi (-100)) < x0 → (cm_tg σ 62 = 103 ∧
cm_in (((x0 / (zi 100)) * (zi 100)) - x0) (cm_ln σ 62) = true ∧
cm_tg σ x2 = 103 ∧
cm_in (x5 + zi (-1)) (cm_ln σ x2) = true ∧
cm_K cp ≤ x2 ∧
(∀ σ5, σ5 = cm_pI σ x2 (cm_ix (x5 + zi (-1))) (cm_I σ 62 (cm_ix (((x0 / (zi 100)) * (zi 100)) - x0))).toInt8.toInt32 → 
cm_tg σ5 63 = 103 ∧
cm_in (((x0 / (zi 100)) * (zi 100)) - x0) (cm_ln σ5 63) = true ∧
cm_in ((x5 + zi (-1)) + zi (-1)) (cm_ln σ5 x2) = true ∧
(∀ σ6, σ6 = cm_pI σ5 x2 (cm_ix ((x5 + zi (-1)) + zi (-1))) (cm_I σ5 63 (cm_ix (((x0 / (zi 100)) * (zi 100)) - x0))).toInt8.toInt32 → 
wp_r d 593 (22, [.int (x0 / (zi 100)), .int x1, .ref x2, .int (x0 / (zi 100)), .int (((x0 / (zi 100)) * (zi 100)) - x0), .int ((x5 + zi (-1)) + zi (-1)), .int x6], [], σ6) Q))))) : wp_r d 593 (22, [.int x0, .int x1, .ref x2, x3, x4, .int x5, .int x6], [], σ) Q :=
  (wr_iload_n rfl rfl rfl (wr_bipush (a := zi (-100)) rfl rfl rfl (wr_icmp_gt rfl rfl (cr_ii h0 (fun c1 h2 => (wr_aload_n rfl rfl rfl (wr_iinc rfl rfl rfl (L2 := [.int x0, .int x1, .ref x2, x3, x4, .int (x5 + zi (-1)), .int x6]) rfl (wr_iload rfl rfl rfl (wr_getstatic rfl (w := .ref 62) rfl rfl (wr_iload_n rfl rfl rfl (wr_ineg rfl rfl (wr_baloadB rfl rfl h2.1 h2.2.1 (wr_bastoreB rfl rfl h2.2.2.1 h2.2.2.2.1 h2.2.2.2.2.1 (wr_iload_n rfl rfl rfl (wr_bipush (a := zi (-9)) rfl rfl rfl (wr_icmp_ge rfl rfl (cr_ii (h2.2.2.2.2.2 _ rfl) (fun c3 h4 => (wr_aload_n rfl rfl rfl (wr_iinc rfl rfl rfl (L2 := [.int x0, .int x1, .ref x2, x3, x4, .int ((x5 + zi (-1)) + zi (-1)), .int x6]) rfl (wr_iload rfl rfl rfl (wr_getstatic rfl (w := .ref 63) rfl rfl (wr_iload_n rfl rfl rfl (wr_ineg rfl rfl (wr_baloadB rfl rfl h4.1 h4.2.1 (wr_bastoreB rfl rfl h2.2.2.1 h4.2.2.1 h2.2.2.2.2.1 (wr_iload rfl rfl rfl (wr_if_eq rfl rfl (cr_ii (h4.2.2.2 _ rfl) (fun c5 h6 => (wr_iload rfl rfl rfl (wr_ireturn rfl rfl h6))) (fun c7 h8 => (wr_aload_n rfl rfl rfl (wr_iinc rfl rfl rfl (L2 := [.int x0, .int x1, .ref x2, x3, x4, .int (((x5 + zi (-1)) + zi (-1)) + zi (-1)), .int x6]) rfl (wr_iload rfl rfl rfl (wr_bipush (a := zi 45) rfl rfl rfl (wr_bastoreB rfl rfl h2.2.2.1 h8.1 h2.2.2.2.2.1 (wr_iload rfl rfl rfl (wr_ireturn rfl rfl (h8.2 _ rfl))))))))))))))))))))) (fun c9 h10 => (wr_iload rfl rfl rfl (wr_if_eq rfl rfl (cr_ii h10 (fun c11 h12 => (wr_iload rfl rfl rfl (wr_ireturn rfl rfl h12))) (fun c13 h14 => (wr_aload_n rfl rfl rfl (wr_iinc rfl rfl rfl (L2 := [.int x0, .int x1, .ref x2, x3, x4, .int ((x5 + zi (-1)) + zi (-1)), .int x6]) rfl (wr_iload rfl rfl rfl (wr_bipush (a := zi 45) rfl rfl rfl (wr_bastoreB rfl rfl h2.2.2.1 h14.1 h2.2.2.2.2.1 (wr_iload rfl rfl rfl (wr_ireturn rfl rfl (h14.2 _ rfl)))))))))))))))))))))))))) (fun c15 h16 => (wr_iload_n rfl rfl rfl (wr_bipush (a := zi 100) rfl rfl rfl (wr_idiv rfl (by decide) rfl (wr_istore_n rfl rfl rfl (L2 := [.int x0, .int x1, .ref x2, .int (x0 / (zi 100)), x4, .int x5, .int x6]) rfl (wr_iload_n rfl rfl rfl (wr_bipush (a := zi 100) rfl rfl rfl (wr_imul rfl rfl (wr_iload_n rfl rfl rfl (wr_isub rfl rfl (wr_istore rfl rfl rfl (L2 := [.int x0, .int x1, .ref x2, .int (x0 / (zi 100)), .int (((x0 / (zi 100)) * (zi 100)) - x0), .int x5, .int x6]) rfl (wr_iload_n rfl rfl rfl (wr_istore_n rfl rfl rfl (L2 := [.int (x0 / (zi 100)), .int x1, .ref x2, .int (x0 / (zi 100)), .int (((x0 / (zi 100)) * (zi 100)) - x0), .int x5, .int x6]) rfl (wr_aload_n rfl rfl rfl (wr_iinc rfl rfl rfl (L2 := [.int (x0 / (zi 100)), .int x1, .ref x2, .int (x0 / (zi 100)), .int (((x0 / (zi 100)) * (zi 100)) - x0), .int (x5 + zi (-1)), .int x6]) rfl (wr_iload rfl rfl rfl (wr_getstatic rfl (w := .ref 62) rfl rfl (wr_iload rfl rfl rfl (wr_baloadB rfl rfl h16.1 h16.2.1 (wr_bastoreB rfl rfl h16.2.2.1 h16.2.2.2.1 h16.2.2.2.2.1 (wr_aload_n rfl rfl rfl (wr_iinc rfl rfl rfl (L2 := [.int (x0 / (zi 100)), .int x1, .ref x2, .int (x0 / (zi 100)), .int (((x0 / (zi 100)) * (zi 100)) - x0), .int ((x5 + zi (-1)) + zi (-1)), .int x6]) rfl (wr_iload rfl rfl rfl (wr_getstatic rfl (w := .ref 63) rfl rfl (wr_iload rfl rfl rfl (wr_baloadB rfl rfl (h16.2.2.2.2.2 _ rfl).1 (h16.2.2.2.2.2 _ rfl).2.1 (wr_bastoreB rfl rfl h16.2.2.1 (h16.2.2.2.2.2 _ rfl).2.2.1 h16.2.2.2.2.1 (wr_goto rfl ((h16.2.2.2.2.2 _ rfl).2.2.2 _ rfl)))))))))))))))))))))))))))))))))
/-- java/lang/Integer.<init>(I)V : labels [] -/
theorem k594 {d : Nat} {x0 : Nat} {x1 : Int32} {σ : cm_S} {Q : cm_O → Prop} (hd : 2 ≤ d) (h0 : (cm_tg σ x0 ≠ 0 ∧ cm_tg σ x0 < 60) ∧
wp_c (d - 1) 592 [.ref x0] σ (qv fun σ1 => cm_tg σ1 x0 = 30 ∧
cm_K cp ≤ x0 ∧
(∀ σ2, σ2 = cm_pI σ1 x0 0 x1 → 
Q (false, .int 0, σ2)))) : wp_c d 594 [.ref x0, .int x1] σ Q :=
  wc_in (by omega) rfl rfl (L := [.ref x0, .int x1]) rfl (have hd : 1 ≤ d - 1 := (by omega); (wr_aload_n rfl rfl rfl (wr_invpv rfl hd rfl (fun _ => rfl) rfl h0.1 rfl (wm_v h0.2 fun σ1 h1 => (wr_aload_n rfl rfl rfl (wr_iload_n rfl rfl rfl (wr_pfI rfl rfl (by decide) ⟨by decide, by decide⟩ h1.1 h1.2.1 rfl (wr_return rfl (h1.2.2 _ rfl)))))))))
/-- java/lang/Integer.intValue()I : labels [] -/
theorem k595 {d : Nat} {x0 : Nat} {σ : cm_S} {Q : cm_O → Prop} (hd : 1 ≤ d) (h0 : cm_tg σ x0 = 30 ∧
Q (false, .int (cm_I σ x0 0), σ)) : wp_c d 595 [.ref x0] σ Q :=
  wc_in (by omega) rfl rfl (L := [.ref x0]) rfl ((wr_aload_n rfl rfl rfl (wr_gfI rfl rfl (by decide) ⟨by decide, by decide⟩ h0.1 (wr_ireturn rfl rfl h0.2))))
/-- java/lang/Integer.numberOfTrailingZeros(I)I : labels [49] -/
theorem k596 {d : Nat} {x0 : Int32} {σ : cm_S} {Q : cm_O → Prop} (hd : 1 ≤ d) (h0 : ((zi 0) < ((x0 ^^^ (zi (-1))) &&& (x0 - (zi 1))) → (((zi 65536) < ((x0 ^^^ (zi (-1))) &&& (x0 - (zi 1))) → (((zi 256) < ((((x0 ^^^ (zi (-1))) &&& (x0 - (zi 1))).toUInt32 >>> ((zi 16).toUInt32 &&& Int32.toUInt32 31)).toInt32) → (wp_r (d - 1) 596 (49, [.int ((((((x0 ^^^ (zi (-1))) &&& (x0 - (zi 1))).toUInt32 >>> ((zi 16).toUInt32 &&& Int32.toUInt32 31)).toInt32).toUInt32 >>> ((zi 8).toUInt32 &&& Int32.toUInt32 31)).toInt32), .int (((zi 1) + zi 16) + zi 8)], [], σ) Q)) ∧
(¬ (zi 256) < ((((x0 ^^^ (zi (-1))) &&& (x0 - (zi 1))).toUInt32 >>> ((zi 16).toUInt32 &&& Int32.toUInt32 31)).toInt32) → (wp_r (d - 1) 596 (49, [.int ((((x0 ^^^ (zi (-1))) &&& (x0 - (zi 1))).toUInt32 >>> ((zi 16).toUInt32 &&& Int32.toUInt32 31)).toInt32), .int ((zi 1) + zi 16)], [], σ) Q)))) ∧
(¬ (zi 65536) < ((x0 ^^^ (zi (-1))) &&& (x0 - (zi 1))) → (((zi 256) < ((x0 ^^^ (zi (-1))) &&& (x0 - (zi 1))) → (wp_r (d - 1) 596 (49, [.int ((((x0 ^^^ (zi (-1))) &&& (x0 - (zi 1))).toUInt32 >>> ((zi 8).toUInt32 &&& Int32.toUInt32 31)).toInt32), .int ((zi 1) + zi 8)], [], σ) Q)) ∧
(¬ (zi 256) < ((x0 ^^^ (zi (-1))) &&& (x0 - (zi 1))) → (wp_r (d - 1) 596 (49, [.int ((x0 ^^^ (zi (-1))) &&& (x0 - (zi 1))), .int (zi 1)], [], σ) Q)))))) ∧
(¬ (zi 0) < ((x0 ^^^ (zi (-1))) &&& (x0 - (zi 1))) → (Q (false, .int (((x0 ^^^ (zi (-1))) &&& (x0 - (zi 1))) &&& (zi 32)), σ)))) : wp_c d 596 [.int x0] σ Q :=
  wc_in (by omega) rfl rfl (L := [.int x0, .null]) rfl ((wr_iload_n rfl rfl rfl (wr_iconst (k := -1) rfl rfl (wr_ixor rfl rfl (wr_iload_n rfl rfl rfl (wr_iconst rfl rfl (wr_isub rfl rfl (wr_iand rfl rfl (wr_istore_n rfl rfl rfl (L2 := [.int ((x0 ^^^ (zi (-1))) &&& (x0 - (zi 1))), .null]) rfl (wr_iload_n rfl rfl rfl (wr_if_gt rfl rfl (cr_ii h0 (fun c1 h2 => (wr_iconst rfl rfl (wr_istore_n rfl rfl rfl (L2 := [.int ((x0 ^^^ (zi (-1))) &&& (x0 - (zi 1))), .int (zi 1)]) rfl (wr_iload_n rfl rfl rfl (wr_ldc_w rfl (w := .int (zi 65536)) rfl rfl (wr_icmp_le rfl rfl (cr_ii h2 (fun c3 h4 => (wr_iinc rfl rfl rfl (L2 := [.int ((x0 ^^^ (zi (-1))) &&& (x0 - (zi 1))), .int ((zi 1) + zi 16)]) rfl (wr_iload_n rfl rfl rfl (wr_bipush (a := zi 16) rfl rfl rfl (wr_iushr rfl rfl (wr_istore_n rfl rfl rfl (L2 := [.int ((((x0 ^^^ (zi (-1))) &&& (x0 - (zi 1))).toUInt32 >>> ((zi 16).toUInt32 &&& Int32.toUInt32 31)).toInt32), .int ((zi 1) + zi 16)]) rfl (wr_iload_n rfl rfl rfl (wr_sipush (a := zi 256) rfl rfl rfl (wr_icmp_le rfl rfl (cr_ii h4 (fun c5 h6 => (wr_iinc rfl rfl rfl (L2 := [.int ((((x0 ^^^ (zi (-1))) &&& (x0 - (zi 1))).toUInt32 >>> ((zi 16).toUInt32 &&& Int32.toUInt32 31)).toInt32), .int (((zi 1) + zi 16) + zi 8)]) rfl (wr_iload_n rfl rfl rfl (wr_bipush (a := zi 8) rfl rfl rfl (wr_iushr rfl rfl (wr_istore_n rfl rfl rfl (L2 := [.int ((((((x0 ^^^ (zi (-1))) &&& (x0 - (zi 1))).toUInt32 >>> ((zi 16).toUInt32 &&& Int32.toUInt32 31)).toInt32).toUInt32 >>> ((zi 8).toUInt32 &&& Int32.toUInt32 31)).toInt32), .int (((zi 1) + zi 16) + zi 8)]) rfl h6)))))) (fun c7 h8 => h8))))))))))) (fun c9 h10 => (wr_iload_n rfl rfl rfl (wr_sipush (a := zi 256) rfl rfl rfl (wr_icmp_le rfl rfl (cr_ii h10 (fun c11 h12 => (wr_iinc rfl rfl rfl (L2 := [.int ((x0 ^^^ (zi (-1))) &&& (x0 - (zi 1))), .int ((zi 1) + zi 8)]) rfl (wr_iload_n rfl rfl rfl (wr_bipush (a := zi 8) rfl rfl rfl (wr_iushr rfl rfl (wr_istore_n rfl rfl rfl (L2 := [.int ((((x0 ^^^ (zi (-1))) &&& (x0 - (zi 1))).toUInt32 >>> ((zi 8).toUInt32 &&& Int32.toUInt32 31)).toInt32), .int ((zi 1) + zi 8)]) rfl h12)))))) (fun c13 h14 => h14))))))))))))) (fun c15 h16 => (wr_iload_n rfl rfl rfl (wr_bipush (a := zi 32) rfl rfl rfl (wr_iand rfl rfl (wr_ireturn rfl rfl h16)))))))))))))))))
theorem k596_49 {d : Nat} {x0 : Int32} {x1 : Int32} {σ : cm_S} {Q : cm_O → Prop} (h0 : ((zi 16) < x0 → (((zi 4) < ((x0.toUInt32 >>> ((zi 4).toUInt32 &&& Int32.toUInt32 31)).toInt32) → (Q (false, .int (((x1 + zi 4) + zi 2) + ((((((x0.toUInt32 >>> ((zi 4).toUInt32 &&& Int32.toUInt32 31)).toInt32).toUInt32 >>> ((zi 2).toUInt32 &&& Int32.toUInt32 31)).toInt32).toUInt32 >>> ((zi 1).toUInt32 &&& Int32.toUInt32 31)).toInt32)), σ))) ∧
(¬ (zi 4) < ((x0.toUInt32 >>> ((zi 4).toUInt32 &&& Int32.toUInt32 31)).toInt32) → (Q (false, .int ((x1 + zi 4) + ((((x0.toUInt32 >>> ((zi 4).toUInt32 &&& Int32.toUInt32 31)).toInt32).toUInt32 >>> ((zi 1).toUInt32 &&& Int32.toUInt32 31)).toInt32)), σ))))) ∧
(¬ (zi 16) < x0 → (((zi 4) < x0 → (Q (false, .int ((x1 + zi 2) + ((((x0.toUInt32 >>> ((zi 2).toUInt32 &&& Int32.toUInt32 31)).toInt32).toUInt32 >>> ((zi 1).toUInt32 &&& Int32.toUInt32 31)).toInt32)), σ))) ∧
(¬ (zi 4) < x0 → (Q (false, .int (x1 + ((x0.toUInt32 >>> ((zi 1).toUInt32 &&& Int32.toUInt32 31)).toInt32)), σ)))))) : wp_r d 596 (49, [.int x0, .int x1], [], σ) Q :=
  (wr_iload_n rfl rfl rfl (wr_bipush (a := zi 16) rfl rfl rfl (wr_icmp_le rfl rfl (cr_ii h0 (fun c1 h2 => (wr_iinc rfl rfl rfl (L2 := [.int x0, .int (x1 + zi 4)]) rfl (wr_iload_n rfl rfl rfl (wr_iconst rfl rfl (wr_iushr rfl rfl (wr_istore_n rfl rfl rfl (L2 := [.int ((x0.toUInt32 >>> ((zi 4).toUInt32 &&& Int32.toUInt32 31)).toInt32), .int (x1 + zi 4)]) rfl (wr_iload_n rfl rfl rfl (wr_iconst rfl rfl (wr_icmp_le rfl rfl (cr_ii h2 (fun c3 h4 => (wr_iinc rfl rfl rfl (L2 := [.int ((x0.toUInt32 >>> ((zi 4).toUInt32 &&& Int32.toUInt32 31)).toInt32), .int ((x1 + zi 4) + zi 2)]) rfl (wr_iload_n rfl rfl rfl (wr_iconst rfl rfl (wr_iushr rfl rfl (wr_istore_n rfl rfl rfl (L2 := [.int ((((x0.toUInt32 >>> ((zi 4).toUInt32 &&& Int32.toUInt32 31)).toInt32).toUInt32 >>> ((zi 2).toUInt32 &&& Int32.toUInt32 31)).toInt32), .int ((x1 + zi 4) + zi 2)]) rfl (wr_iload_n rfl rfl rfl (wr_iload_n rfl rfl rfl (wr_iconst rfl rfl (wr_iushr rfl rfl (wr_iadd rfl rfl (wr_ireturn rfl rfl h4)))))))))))) (fun c5 h6 => (wr_iload_n rfl rfl rfl (wr_iload_n rfl rfl rfl (wr_iconst rfl rfl (wr_iushr rfl rfl (wr_iadd rfl rfl (wr_ireturn rfl rfl h6))))))))))))))))) (fun c7 h8 => (wr_iload_n rfl rfl rfl (wr_iconst rfl rfl (wr_icmp_le rfl rfl (cr_ii h8 (fun c9 h10 => (wr_iinc rfl rfl rfl (L2 := [.int x0, .int (x1 + zi 2)]) rfl (wr_iload_n rfl rfl rfl (wr_iconst rfl rfl (wr_iushr rfl rfl (wr_istore_n rfl rfl rfl (L2 := [.int ((x0.toUInt32 >>> ((zi 2).toUInt32 &&& Int32.toUInt32 31)).toInt32), .int (x1 + zi 2)]) rfl (wr_iload_n rfl rfl rfl (wr_iload_n rfl rfl rfl (wr_iconst rfl rfl (wr_iushr rfl rfl (wr_iadd rfl rfl (wr_ireturn rfl rfl h10)))))))))))) (fun c11 h12 => (wr_iload_n rfl rfl rfl (wr_iload_n rfl rfl rfl (wr_iconst rfl rfl (wr_iushr rfl rfl (wr_iadd rfl rfl (wr_ireturn rfl rfl h12))))))))))))))))
/-- java/lang/Integer.stringSize(I)I : labels [16] -/
theorem k597 {d : Nat} {x0 : Int32} {σ : cm_S} {Q : cm_O → Prop} (hd : 1 ≤ d) (h0 : (x0 < (zi 0) → (wp_r (d - 1) 597 (16, [.int x0, .int (zi 1), .int (zi (-10)), .int (zi 1)], [], σ) Q)) ∧
(¬ x0 < (zi 0) → (wp_r (d - 1) 597 (16, [.int (-x0), .int (zi 0), .int (zi (-10)), .int (zi 1)], [], σ) Q))) : wp_c d 597 [.int x0] σ Q :=
  wc_in (by omega) rfl rfl (L := [.int x0, .null, .null, .null]) rfl ((wr_iconst rfl rfl (wr_istore_n rfl rfl rfl (L2 := [.int x0, .int (zi 1), .null, .null]) rfl (wr_iload_n rfl rfl rfl (wr_if_lt rfl rfl (cr_ii h0 (fun c1 h2 => (wr_bipush (a := zi (-10)) rfl rfl rfl (wr_istore_n rfl rfl rfl (L2 := [.int x0, .int (zi 1), .int (zi (-10)), .null]) rfl (wr_iconst rfl rfl (wr_istore_n rfl rfl rfl (L2 := [.int x0, .int (zi 1), .int (zi (-10)), .int (zi 1)]) rfl h2))))) (fun c3 h4 => (wr_iconst rfl rfl (wr_istore_n rfl rfl rfl (L2 := [.int x0, .int (zi 0), .null, .null]) rfl (wr_iload_n rfl rfl rfl (wr_ineg rfl rfl (wr_istore_n rfl rfl rfl (L2 := [.int (-x0), .int (zi 0), .null, .null]) rfl (wr_bipush (a := zi (-10)) rfl rfl rfl (wr_istore_n rfl rfl rfl (L2 := [.int (-x0), .int (zi 0), .int (zi (-10)), .null]) rfl (wr_iconst rfl rfl (wr_istore_n rfl rfl rfl (L2 := [.int (-x0), .int (zi 0), .int (zi (-10)), .int (zi 1)]) rfl h4))))))))))))))))
theorem k597_16 {d : Nat} {x0 : Int32} {x1 : Int32} {x2 : Int32} {x3 : Int32} {σ : cm_S} {Q : cm_O → Prop} (h0 : (x3 < (zi 10) → ((x2 < x0 → (Q (false, .int (x3 + x1), σ))) ∧
(¬ x2 < x0 → (wp_r d 597 (16, [.int x0, .int x1, .int ((zi 10) * x2), .int (x3 + zi 1)], [], σ) Q)))) ∧
(¬ x3 < (zi 10) → (Q (false, .int ((zi 10) + x1), σ)))) : wp_r d 597 (16, [.int x0, .int x1, .int x2, .int x3], [], σ) Q :=
  (wr_iload_n rfl rfl rfl (wr_bipush (a := zi 10) rfl rfl rfl (wr_icmp_ge rfl rfl (cr_ii h0 (fun c1 h2 => (wr_iload_n rfl rfl rfl (wr_iload_n rfl rfl rfl (wr_icmp_le rfl rfl (cr_ii h2 (fun c3 h4 => (wr_iload_n rfl rfl rfl (wr_iload_n rfl rfl rfl (wr_iadd rfl rfl (wr_ireturn rfl rfl h4))))) (fun c5 h6 => (wr_bipush (a := zi 10) rfl rfl rfl (wr_iload_n rfl rfl rfl (wr_imul rfl rfl (wr_istore_n rfl rfl rfl (L2 := [.int x0, .int x1, .int ((zi 10) * x2), .int x3]) rfl (wr_iinc rfl rfl rfl (L2 := [.int x0, .int x1, .int ((zi 10) * x2), .int (x3 + zi 1)]) rfl (wr_goto rfl h6)))))))))))) (fun c7 h8 => (wr_bipush (a := zi 10) rfl rfl rfl (wr_iload_n rfl rfl rfl (wr_iadd rfl rfl (wr_ireturn rfl rfl h8)))))))))
/-- java/lang/Integer.valueOf(I)Ljava/lang/Integer; : labels [] -/
theorem k598 {d : Nat} {x0 : Int32} {σ : cm_S} {Q : cm_O → Prop} (hd : 2 ≤ d) (h0 : (x0 < (zi (-128)) → (∀ σ1, σ1 = cm_al σ 30 1 → 
wp_c (d - 1) 594 [.ref (cm_nx σ), .int x0] σ1 (qv fun σ2 => Q (false, .ref (cm_nx σ), σ2)))) ∧
(¬ x0 < (zi (-128)) → (((zi 127) < x0 → (∀ σ3, σ3 = cm_al σ 30 1 → 
wp_c (d - 1) 594 [.ref (cm_nx σ), .int x0] σ3 (qv fun σ4 => Q (false, .ref (cm_nx σ), σ4)))) ∧
(¬ (zi 127) < x0 → (104 < cm_tg σ 61 ∧
cm_in (x0 + (zi 128)) (cm_ln σ 61) = true ∧
Q (false, .ref (cm_R σ 61 (cm_ix (x0 + (zi 128)))), σ)))))) : wp_c d 598 [.int x0] σ Q :=
  wc_in (by omega) rfl rfl (L := [.int x0]) rfl (have hd : 1 ≤ d - 1 := (by omega); (wr_iload_n rfl rfl rfl (wr_bipush (a := zi (-128)) rfl rfl rfl (wr_icmp_lt rfl rfl (cr_ii h0 (fun c1 h2 => (wr_new rfl rfl (wr_dup rfl rfl rfl (wr_iload_n rfl rfl rfl (wr_invpv rfl hd rfl (fun _ => rfl) rfl (cr_60 (tg_new _ _ _) rfl) rfl (wm_v (h2 _ rfl) fun σ2 h3 => (wr_areturn rfl h3))))))) (fun c4 h5 => (wr_iload_n rfl rfl rfl (wr_getstatic rfl (w := .int (zi 127)) rfl rfl (wr_icmp_gt rfl rfl (cr_ii h5 (fun c6 h7 => (wr_new rfl rfl (wr_dup rfl rfl rfl (wr_iload_n rfl rfl rfl (wr_invpv rfl hd rfl (fun _ => rfl) rfl (cr_60 (tg_new _ _ _) rfl) rfl (wm_v (h7 _ rfl) fun σ4 h8 => (wr_areturn rfl h8))))))) (fun c9 h10 => (wr_getstatic rfl (w := .ref 61) rfl rfl (wr_iload_n rfl rfl rfl (wr_sipush (a := zi 128) rfl rfl rfl (wr_iadd rfl rfl (wr_aaload rfl rfl h10.1 h10.2.1 (wr_areturn rfl h10.2.2)))))))))))))))))
/-- java/lang/Boolean.booleanValue()Z : labels [] -/
theorem k599 {d : Nat} {x0 : Nat} {σ : cm_S} {Q : cm_O → Prop} (hd : 1 ≤ d) (h0 : cm_tg σ x0 = 61 ∧
cm_fit 3 (cm_I σ x0 0) = true ∧ Q (false, .int (cm_I σ x0 0), σ)) : wp_c d 599 [.ref x0] σ Q :=
  wc_in (by omega) rfl rfl (L := [.ref x0]) rfl ((wr_aload_n rfl rfl rfl (wr_gfI rfl rfl (by decide) ⟨by decide, by decide⟩ h0.1 (wr_ireturn rfl h0.2.1 h0.2.2))))
/-- java/lang/Boolean.valueOf(Z)Ljava/lang/Boolean; : labels [] -/
theorem k600 {d : Nat} {x0 : Int32} {σ : cm_S} {Q : cm_O → Prop} (hd : 1 ≤ d) (h0 : (x0 = (zi 0) → (Q (false, .ref 57, σ))) ∧
(¬ x0 = (zi 0) → (Q (false, .ref 56, σ)))) : wp_c d 600 [.int x0] σ Q :=
  wc_in (by omega) rfl rfl (L := [.int x0]) rfl ((wr_iload_n rfl rfl rfl (wr_if_eq rfl rfl (cr_ii h0 (fun c1 h2 => (wr_getstatic rfl (w := .ref 57) rfl rfl (wr_areturn rfl h2))) (fun c3 h4 => (wr_getstatic rfl (w := .ref 56) rfl rfl (wr_goto rfl (wr_areturn rfl h4))))))))
/-- java/util/Objects.checkIndex(II)I : labels [] -/
theorem k605 {d : Nat} {x0 : Int32} {x1 : Int32} {σ : cm_S} {Q : cm_O → Prop} (hd : 2 ≤ d) (h0 : wp_c (d - 1) 528 [.int x0, .int x1, .ref 0] σ (qi fun r1 σ1 => Q (false, .int r1, σ1))) : wp_c d 605 [.int x0, .int x1] σ Q :=
  wc_in (by omega) rfl rfl (L := [.int x0, .int x1]) rfl (have hd : 1 ≤ d - 1 := (by omega); (wr_iload_n rfl rfl rfl (wr_iload_n rfl rfl rfl (wr_aconst_null rfl rfl (wr_invsi rfl hd rfl (fun _ => rfl) rfl rfl (wm_i h0 fun r1 σ1 h1 => (wr_ireturn rfl rfl h1)))))))
/-- java/lang/Long.bitCount(J)I : labels [] -/
theorem k606 {d : Nat} {x0 : Int64} {σ : cm_S} {Q : cm_O → Prop} (hd : 1 ≤ d) (h0 : Q (false, .int ((((((((((x0 - (((x0.toUInt64 >>> ((zi 1).toInt64.toUInt64 &&& Int64.toUInt64 63)).toInt64) &&& (zl 6148914691236517205))) &&& (zl 3689348814741910323)) + ((((x0 - (((x0.toUInt64 >>> ((zi 1).toInt64.toUInt64 &&& Int64.toUInt64 63)).toInt64) &&& (zl 6148914691236517205))).toUInt64 >>> ((zi 2).toInt64.toUInt64 &&& Int64.toUInt64 63)).toInt64) &&& (zl 3689348814741910323))) + (((((x0 - (((x0.toUInt64 >>> ((zi 1).toInt64.toUInt64 &&& Int64.toUInt64 63)).toInt64) &&& (zl 6148914691236517205))) &&& (zl 3689348814741910323)) + ((((x0 - (((x0.toUInt64 >>> ((zi 1).toInt64.toUInt64 &&& Int64.toUInt64 63)).toInt64) &&& (zl 6148914691236517205))).toUInt64 >>> ((zi 2).toInt64.toUInt64 &&& Int64.toUInt64 63)).toInt64) &&& (zl 3689348814741910323))).toUInt64 >>> ((zi 4).toInt64.toUInt64 &&& Int64.toUInt64 63)).toInt64)) &&& (zl 1085102592571150095)) + (((((((x0 - (((x0.toUInt64 >>> ((zi 1).toInt64.toUInt64 &&& Int64.toUInt64 63)).toInt64) &&& (zl 6148914691236517205))) &&& (zl 3689348814741910323)) + ((((x0 - (((x0.toUInt64 >>> ((zi 1).toInt64.toUInt64 &&& Int64.toUInt64 63)).toInt64) &&& (zl 6148914691236517205))).toUInt64 >>> ((zi 2).toInt64.toUInt64 &&& Int64.toUInt64 63)).toInt64) &&& (zl 3689348814741910323))) + (((((x0 - (((x0.toUInt64 >>> ((zi 1).toInt64.toUInt64 &&& Int64.toUInt64 63)).toInt64) &&& (zl 6148914691236517205))) &&& (zl 3689348814741910323)) + ((((x0 - (((x0.toUInt64 >>> ((zi 1).toInt64.toUInt64 &&& Int64.toUInt64 63)).toInt64) &&& (zl 6148914691236517205))).toUInt64 >>> ((zi 2).toInt64.toUInt64 &&& Int64.toUInt64 63)).toInt64) &&& (zl 3689348814741910323))).toUInt64 >>> ((zi 4).toInt64.toUInt64 &&& Int64.toUInt64 63)).toInt64)) &&& (zl 1085102592571150095)).toUInt64 >>> ((zi 8).toInt64.toUInt64 &&& Int64.toUInt64 63)).toInt64)) + ((((((((x0 - (((x0.toUInt64 >>> ((zi 1).toInt64.toUInt64 &&& Int64.toUInt64 63)).toInt64) &&& (zl 6148914691236517205))) &&& (zl 3689348814741910323)) + ((((x0 - (((x0.toUInt64 >>> ((zi 1).toInt64.toUInt64 &&& Int64.toUInt64 63)).toInt64) &&& (zl 6148914691236517205))).toUInt64 >>> ((zi 2).toInt64.toUInt64 &&& Int64.toUInt64 63)).toInt64) &&& (zl 3689348814741910323))) + (((((x0 - (((x0.toUInt64 >>> ((zi 1).toInt64.toUInt64 &&& Int64.toUInt64 63)).toInt64) &&& (zl 6148914691236517205))) &&& (zl 3689348814741910323)) + ((((x0 - (((x0.toUInt64 >>> ((zi 1).toInt64.toUInt64 &&& Int64.toUInt64 63)).toInt64) &&& (zl 6148914691236517205))).toUInt64 >>> ((zi 2).toInt64.toUInt64 &&& Int64.toUInt64 63)).toInt64) &&& (zl 3689348814741910323))).toUInt64 >>> ((zi 4).toInt64.toUInt64 &&& Int64.toUInt64 63)).toInt64)) &&& (zl 1085102592571150095)) + (((((((x0 - (((x0.toUInt64 >>> ((zi 1).toInt64.toUInt64 &&& Int64.toUInt64 63)).toInt64) &&& (zl 6148914691236517205))) &&& (zl 3689348814741910323)) + ((((x0 - (((x0.toUInt64 >>> ((zi 1).toInt64.toUInt64 &&& Int64.toUInt64 63)).toInt64) &&& (zl 6148914691236517205))).toUInt64 >>> ((zi 2).toInt64.toUInt64 &&& Int64.toUInt64 63)).toInt64) &&& (zl 3689348814741910323))) + (((((x0 - (((x0.toUInt64 >>> ((zi 1).toInt64.toUInt64 &&& Int64.toUInt64 63)).toInt64) &&& (zl 6148914691236517205))) &&& (zl 3689348814741910323)) + ((((x0 - (((x0.toUInt64 >>> ((zi 1).toInt64.toUInt64 &&& Int64.toUInt64 63)).toInt64) &&& (zl 6148914691236517205))).toUInt64 >>> ((zi 2).toInt64.toUInt64 &&& Int64.toUInt64 63)).toInt64) &&& (zl 3689348814741910323))).toUInt64 >>> ((zi 4).toInt64.toUInt64 &&& Int64.toUInt64 63)).toInt64)) &&& (zl 1085102592571150095)).toUInt64 >>> ((zi 8).toInt64.toUInt64 &&& Int64.toUInt64 63)).toInt64)).toUInt64 >>> ((zi 16).toInt64.toUInt64 &&& Int64.toUInt64 63)).toInt64)) + (((((((((x0 - (((x0.toUInt64 >>> ((zi 1).toInt64.toUInt64 &&& Int64.toUInt64 63)).toInt64) &&& (zl 6148914691236517205))) &&& (zl 3689348814741910323)) + ((((x0 - (((x0.toUInt64 >>> ((zi 1).toInt64.toUInt64 &&& Int64.toUInt64 63)).toInt64) &&& (zl 6148914691236517205))).toUInt64 >>> ((zi 2).toInt64.toUInt64 &&& Int64.toUInt64 63)).toInt64) &&& (zl 3689348814741910323))) + (((((x0 - (((x0.toUInt64 >>> ((zi 1).toInt64.toUInt64 &&& Int64.toUInt64 63)).toInt64) &&& (zl 6148914691236517205))) &&& (zl 3689348814741910323)) + ((((x0 - (((x0.toUInt64 >>> ((zi 1).toInt64.toUInt64 &&& Int64.toUInt64 63)).toInt64) &&& (zl 6148914691236517205))).toUInt64 >>> ((zi 2).toInt64.toUInt64 &&& Int64.toUInt64 63)).toInt64) &&& (zl 3689348814741910323))).toUInt64 >>> ((zi 4).toInt64.toUInt64 &&& Int64.toUInt64 63)).toInt64)) &&& (zl 1085102592571150095)) + (((((((x0 - (((x0.toUInt64 >>> ((zi 1).toInt64.toUInt64 &&& Int64.toUInt64 63)).toInt64) &&& (zl 6148914691236517205))) &&& (zl 3689348814741910323)) + ((((x0 - (((x0.toUInt64 >>> ((zi 1).toInt64.toUInt64 &&& Int64.toUInt64 63)).toInt64) &&& (zl 6148914691236517205))).toUInt64 >>> ((zi 2).toInt64.toUInt64 &&& Int64.toUInt64 63)).toInt64) &&& (zl 3689348814741910323))) + (((((x0 - (((x0.toUInt64 >>> ((zi 1).toInt64.toUInt64 &&& Int64.toUInt64 63)).toInt64) &&& (zl 6148914691236517205))) &&& (zl 3689348814741910323)) + ((((x0 - (((x0.toUInt64 >>> ((zi 1).toInt64.toUInt64 &&& Int64.toUInt64 63)).toInt64) &&& (zl 6148914691236517205))).toUInt64 >>> ((zi 2).toInt64.toUInt64 &&& Int64.toUInt64 63)).toInt64) &&& (zl 3689348814741910323))).toUInt64 >>> ((zi 4).toInt64.toUInt64 &&& Int64.toUInt64 63)).toInt64)) &&& (zl 1085102592571150095)).toUInt64 >>> ((zi 8).toInt64.toUInt64 &&& Int64.toUInt64 63)).toInt64)) + ((((((((x0 - (((x0.toUInt64 >>> ((zi 1).toInt64.toUInt64 &&& Int64.toUInt64 63)).toInt64) &&& (zl 6148914691236517205))) &&& (zl 3689348814741910323)) + ((((x0 - (((x0.toUInt64 >>> ((zi 1).toInt64.toUInt64 &&& Int64.toUInt64 63)).toInt64) &&& (zl 6148914691236517205))).toUInt64 >>> ((zi 2).toInt64.toUInt64 &&& Int64.toUInt64 63)).toInt64) &&& (zl 3689348814741910323))) + (((((x0 - (((x0.toUInt64 >>> ((zi 1).toInt64.toUInt64 &&& Int64.toUInt64 63)).toInt64) &&& (zl 6148914691236517205))) &&& (zl 3689348814741910323)) + ((((x0 - (((x0.toUInt64 >>> ((zi 1).toInt64.toUInt64 &&& Int64.toUInt64 63)).toInt64) &&& (zl 6148914691236517205))).toUInt64 >>> ((zi 2).toInt64.toUInt64 &&& Int64.toUInt64 63)).toInt64) &&& (zl 3689348814741910323))).toUInt64 >>> ((zi 4).toInt64.toUInt64 &&& Int64.toUInt64 63)).toInt64)) &&& (zl 1085102592571150095)) + (((((((x0 - (((x0.toUInt64 >>> ((zi 1).toInt64.toUInt64 &&& Int64.toUInt64 63)).toInt64) &&& (zl 6148914691236517205))) &&& (zl 3689348814741910323)) + ((((x0 - (((x0.toUInt64 >>> ((zi 1).toInt64.toUInt64 &&& Int64.toUInt64 63)).toInt64) &&& (zl 6148914691236517205))).toUInt64 >>> ((zi 2).toInt64.toUInt64 &&& Int64.toUInt64 63)).toInt64) &&& (zl 3689348814741910323))) + (((((x0 - (((x0.toUInt64 >>> ((zi 1).toInt64.toUInt64 &&& Int64.toUInt64 63)).toInt64) &&& (zl 6148914691236517205))) &&& (zl 3689348814741910323)) + ((((x0 - (((x0.toUInt64 >>> ((zi 1).toInt64.toUInt64 &&& Int64.toUInt64 63)).toInt64) &&& (zl 6148914691236517205))).toUInt64 >>> ((zi 2).toInt64.toUInt64 &&& Int64.toUInt64 63)).toInt64) &&& (zl 3689348814741910323))).toUInt64 >>> ((zi 4).toInt64.toUInt64 &&& Int64.toUInt64 63)).toInt64)) &&& (zl 1085102592571150095)).toUInt64 >>> ((zi 8).toInt64.toUInt64 &&& Int64.toUInt64 63)).toInt64)).toUInt64 >>> ((zi 16).toInt64.toUInt64 &&& Int64.toUInt64 63)).toInt64)).toUInt64 >>> ((zi 32).toInt64.toUInt64 &&& Int64.toUInt64 63)).toInt64)).toInt32) &&& (zi 127)), σ)) : wp_c d 606 [.long x0] σ Q :=
  wc_in (by omega) rfl rfl (L := [.long x0, .retAddr 0]) rfl ((wr_lload_n rfl rfl rfl rfl (wr_lload_n rfl rfl rfl rfl (wr_iconst rfl rfl (wr_lushr rfl rfl (wr_ldc2_w rfl (w := .long (zl 6148914691236517205)) rfl rfl (wr_land rfl rfl (wr_lsub rfl rfl (wr_lstore_n rfl rfl rfl (L2 := [.long (x0 - (((x0.toUInt64 >>> ((zi 1).toInt64.toUInt64 &&& Int64.toUInt64 63)).toInt64) &&& (zl 6148914691236517205))), .retAddr 0]) rfl (wr_lload_n rfl rfl rfl rfl (wr_ldc2_w rfl (w := .long (zl 3689348814741910323)) rfl rfl (wr_land rfl rfl (wr_lload_n rfl rfl rfl rfl (wr_iconst rfl rfl (wr_lushr rfl rfl (wr_ldc2_w rfl (w := .long (zl 3689348814741910323)) rfl rfl (wr_land rfl rfl (wr_ladd rfl rfl (wr_lstore_n rfl rfl rfl (L2 := [.long (((x0 - (((x0.toUInt64 >>> ((zi 1).toInt64.toUInt64 &&& Int64.toUInt64 63)).toInt64) &&& (zl 6148914691236517205))) &&& (zl 3689348814741910323)) + ((((x0 - (((x0.toUInt64 >>> ((zi 1).toInt64.toUInt64 &&& Int64.toUInt64 63)).toInt64) &&& (zl 6148914691236517205))).toUInt64 >>> ((zi 2).toInt64.toUInt64 &&& Int64.toUInt64 63)).toInt64) &&& (zl 3689348814741910323))), .retAddr 0]) rfl (wr_lload_n rfl rfl rfl rfl (wr_lload_n rfl rfl rfl rfl (wr_iconst rfl rfl (wr_lushr rfl rfl (wr_ladd rfl rfl (wr_ldc2_w rfl (w := .long (zl 1085102592571150095)) rfl rfl (wr_land rfl rfl (wr_lstore_n rfl rfl rfl (L2 := [.long (((((x0 - (((x0.toUInt64 >>> ((zi 1).toInt64.toUInt64 &&& Int64.toUInt64 63)).toInt64) &&& (zl 6148914691236517205))) &&& (zl 3689348814741910323)) + ((((x0 - (((x0.toUInt64 >>> ((zi 1).toInt64.toUInt64 &&& Int64.toUInt64 63)).toInt64) &&& (zl 6148914691236517205))).toUInt64 >>> ((zi 2).toInt64.toUInt64 &&& Int64.toUInt64 63)).toInt64) &&& (zl 3689348814741910323))) + (((((x0 - (((x0.toUInt64 >>> ((zi 1).toInt64.toUInt64 &&& Int64.toUInt64 63)).toInt64) &&& (zl 6148914691236517205))) &&& (zl 3689348814741910323)) + ((((x0 - (((x0.toUInt64 >>> ((zi 1).toInt64.toUInt64 &&& Int64.toUInt64 63)).toInt64) &&& (zl 6148914691236517205))).toUInt64 >>> ((zi 2).toInt64.toUInt64 &&& Int64.toUInt64 63)).toInt64) &&& (zl 3689348814741910323))).toUInt64 >>> ((zi 4).toInt64.toUInt64 &&& Int64.toUInt64 63)).toInt64)) &&& (zl 1085102592571150095)), .retAddr 0]) rfl (wr_lload_n rfl rfl rfl rfl (wr_lload_n rfl rfl rfl rfl (wr_bipush (a := zi 8) rfl rfl rfl (wr_lushr rfl rfl (wr_ladd rfl rfl (wr_lstore_n rfl rfl rfl (L2 := [.long ((((((x0 - (((x0.toUInt64 >>> ((zi 1).toInt64.toUInt64 &&& Int64.toUInt64 63)).toInt64) &&& (zl 6148914691236517205))) &&& (zl 3689348814741910323)) + ((((x0 - (((x0.toUInt64 >>> ((zi 1).toInt64.toUInt64 &&& Int64.toUInt64 63)).toInt64) &&& (zl 6148914691236517205))).toUInt64 >>> ((zi 2).toInt64.toUInt64 &&& Int64.toUInt64 63)).toInt64) &&& (zl 3689348814741910323))) + (((((x0 - (((x0.toUInt64 >>> ((zi 1).toInt64.toUInt64 &&& Int64.toUInt64 63)).toInt64) &&& (zl 6148914691236517205))) &&& (zl 3689348814741910323)) + ((((x0 - (((x0.toUInt64 >>> ((zi 1).toInt64.toUInt64 &&& Int64.toUInt64 63)).toInt64) &&& (zl 6148914691236517205))).toUInt64 >>> ((zi 2).toInt64.toUInt64 &&& Int64.toUInt64 63)).toInt64) &&& (zl 3689348814741910323))).toUInt64 >>> ((zi 4).toInt64.toUInt64 &&& Int64.toUInt64 63)).toInt64)) &&& (zl 1085102592571150095)) + (((((((x0 - (((x0.toUInt64 >>> ((zi 1).toInt64.toUInt64 &&& Int64.toUInt64 63)).toInt64) &&& (zl 6148914691236517205))) &&& (zl 3689348814741910323)) + ((((x0 - (((x0.toUInt64 >>> ((zi 1).toInt64.toUInt64 &&& Int64.toUInt64 63)).toInt64) &&& (zl 6148914691236517205))).toUInt64 >>> ((zi 2).toInt64.toUInt64 &&& Int64.toUInt64 63)).toInt64) &&& (zl 3689348814741910323))) + (((((x0 - (((x0.toUInt64 >>> ((zi 1).toInt64.toUInt64 &&& Int64.toUInt64 63)).toInt64) &&& (zl 6148914691236517205))) &&& (zl 3689348814741910323)) + ((((x0 - (((x0.toUInt64 >>> ((zi 1).toInt64.toUInt64 &&& Int64.toUInt64 63)).toInt64) &&& (zl 6148914691236517205))).toUInt64 >>> ((zi 2).toInt64.toUInt64 &&& Int64.toUInt64 63)).toInt64) &&& (zl 3689348814741910323))).toUInt64 >>> ((zi 4).toInt64.toUInt64 &&& Int64.toUInt64 63)).toInt64)) &&& (zl 1085102592571150095)).toUInt64 >>> ((zi 8).toInt64.toUInt64 &&& Int64.toUInt64 63)).toInt64)), .retAddr 0]) rfl (wr_lload_n rfl rfl rfl rfl (wr_lload_n rfl rfl rfl rfl (wr_bipush (a := zi 16) rfl rfl rfl (wr_lushr rfl rfl (wr_ladd rfl rfl (wr_lstore_n rfl rfl rfl (L2 := [.long (((((((x0 - (((x0.toUInt64 >>> ((zi 1).toInt64.toUInt64 &&& Int64.toUInt64 63)).toInt64) &&& (zl 6148914691236517205))) &&& (zl 3689348814741910323)) + ((((x0 - (((x0.toUInt64 >>> ((zi 1).toInt64.toUInt64 &&& Int64.toUInt64 63)).toInt64) &&& (zl 6148914691236517205))).toUInt64 >>> ((zi 2).toInt64.toUInt64 &&& Int64.toUInt64 63)).toInt64) &&& (zl 3689348814741910323))) + (((((x0 - (((x0.toUInt64 >>> ((zi 1).toInt64.toUInt64 &&& Int64.toUInt64 63)).toInt64) &&& (zl 6148914691236517205))) &&& (zl 3689348814741910323)) + ((((x0 - (((x0.toUInt64 >>> ((zi 1).toInt64.toUInt64 &&& Int64.toUInt64 63)).toInt64) &&& (zl 6148914691236517205))).toUInt64 >>> ((zi 2).toInt64.toUInt64 &&& Int64.toUInt64 63)).toInt64) &&& (zl 3689348814741910323))).toUInt64 >>> ((zi 4).toInt64.toUInt64 &&& Int64.toUInt64 63)).toInt64)) &&& (zl 1085102592571150095)) + (((((((x0 - (((x0.toUInt64 >>> ((zi 1).toInt64.toUInt64 &&& Int64.toUInt64 63)).toInt64) &&& (zl 6148914691236517205))) &&& (zl 3689348814741910323)) + ((((x0 - (((x0.toUInt64 >>> ((zi 1).toInt64.toUInt64 &&& Int64.toUInt64 63)).toInt64) &&& (zl 6148914691236517205))).toUInt64 >>> ((zi 2).toInt64.toUInt64 &&& Int64.toUInt64 63)).toInt64) &&& (zl 3689348814741910323))) + (((((x0 - (((x0.toUInt64 >>> ((zi 1).toInt64.toUInt64 &&& Int64.toUInt64 63)).toInt64) &&& (zl 6148914691236517205))) &&& (zl 3689348814741910323)) + ((((x0 - (((x0.toUInt64 >>> ((zi 1).toInt64.toUInt64 &&& Int64.toUInt64 63)).toInt64) &&& (zl 6148914691236517205))).toUInt64 >>> ((zi 2).toInt64.toUInt64 &&& Int64.toUInt64 63)).toInt64) &&& (zl 3689348814741910323))).toUInt64 >>> ((zi 4).toInt64.toUInt64 &&& Int64.toUInt64 63)).toInt64)) &&& (zl 1085102592571150095)).toUInt64 >>> ((zi 8).toInt64.toUInt64 &&& Int64.toUInt64 63)).toInt64)) + ((((((((x0 - (((x0.toUInt64 >>> ((zi 1).toInt64.toUInt64 &&& Int64.toUInt64 63)).toInt64) &&& (zl 6148914691236517205))) &&& (zl 3689348814741910323)) + ((((x0 - (((x0.toUInt64 >>> ((zi 1).toInt64.toUInt64 &&& Int64.toUInt64 63)).toInt64) &&& (zl 6148914691236517205))).toUInt64 >>> ((zi 2).toInt64.toUInt64 &&& Int64.toUInt64 63)).toInt64) &&& (zl 3689348814741910323))) + (((((x0 - (((x0.toUInt64 >>> ((zi 1).toInt64.toUInt64 &&& Int64.toUInt64 63)).toInt64) &&& (zl 6148914691236517205))) &&& (zl 3689348814741910323)) + ((((x0 - (((x0.toUInt64 >>> ((zi 1).toInt64.toUInt64 &&& Int64.toUInt64 63)).toInt64) &&& (zl 6148914691236517205))).toUInt64 >>> ((zi 2).toInt64.toUInt64 &&& Int64.toUInt64 63)).toInt64) &&& (zl 3689348814741910323))).toUInt64 >>> ((zi 4).toInt64.toUInt64 &&& Int64.toUInt64 63)).toInt64)) &&& (zl 1085102592571150095)) + (((((((x0 - (((x0.toUInt64 >>> ((zi 1).toInt64.toUInt64 &&& Int64.toUInt64 63)).toInt64) &&& (zl 6148914691236517205))) &&& (zl 3689348814741910323)) + ((((x0 - (((x0.toUInt64 >>> ((zi 1).toInt64.toUInt64 &&& Int64.toUInt64 63)).toInt64) &&& (zl 6148914691236517205))).toUInt64 >>> ((zi 2).toInt64.toUInt64 &&& Int64.toUInt64 63)).toInt64) &&& (zl 3689348814741910323))) + (((((x0 - (((x0.toUInt64 >>> ((zi 1).toInt64.toUInt64 &&& Int64.toUInt64 63)).toInt64) &&& (zl 6148914691236517205))) &&& (zl 3689348814741910323)) + ((((x0 - (((x0.toUInt64 >>> ((zi 1).toInt64.toUInt64 &&& Int64.toUInt64 63)).toInt64) &&& (zl 6148914691236517205))).toUInt64 >>> ((zi 2).toInt64.toUInt64 &&& Int64.toUInt64 63)).toInt64) &&& (zl 3689348814741910323))).toUInt64 >>> ((zi 4).toInt64.toUInt64 &&& Int64.toUInt64 63)).toInt64)) &&& (zl 1085102592571150095)).toUInt64 >>> ((zi 8).toInt64.toUInt64 &&& Int64.toUInt64 63)).toInt64)).toUInt64 >>> ((zi 16).toInt64.toUInt64 &&& Int64.toUInt64 63)).toInt64)), .retAddr 0]) rfl (wr_lload_n rfl rfl rfl rfl (wr_lload_n rfl rfl rfl rfl (wr_bipush (a := zi 32) rfl rfl rfl (wr_lushr rfl rfl (wr_ladd rfl rfl (wr_lstore_n rfl rfl rfl (L2 := [.long ((((((((x0 - (((x0.toUInt64 >>> ((zi 1).toInt64.toUInt64 &&& Int64.toUInt64 63)).toInt64) &&& (zl 6148914691236517205))) &&& (zl 3689348814741910323)) + ((((x0 - (((x0.toUInt64 >>> ((zi 1).toInt64.toUInt64 &&& Int64.toUInt64 63)).toInt64) &&& (zl 6148914691236517205))).toUInt64 >>> ((zi 2).toInt64.toUInt64 &&& Int64.toUInt64 63)).toInt64) &&& (zl 3689348814741910323))) + (((((x0 - (((x0.toUInt64 >>> ((zi 1).toInt64.toUInt64 &&& Int64.toUInt64 63)).toInt64) &&& (zl 6148914691236517205))) &&& (zl 3689348814741910323)) + ((((x0 - (((x0.toUInt64 >>> ((zi 1).toInt64.toUInt64 &&& Int64.toUInt64 63)).toInt64) &&& (zl 6148914691236517205))).toUInt64 >>> ((zi 2).toInt64.toUInt64 &&& Int64.toUInt64 63)).toInt64) &&& (zl 3689348814741910323))).toUInt64 >>> ((zi 4).toInt64.toUInt64 &&& Int64.toUInt64 63)).toInt64)) &&& (zl 1085102592571150095)) + (((((((x0 - (((x0.toUInt64 >>> ((zi 1).toInt64.toUInt64 &&& Int64.toUInt64 63)).toInt64) &&& (zl 6148914691236517205))) &&& (zl 3689348814741910323)) + ((((x0 - (((x0.toUInt64 >>> ((zi 1).toInt64.toUInt64 &&& Int64.toUInt64 63)).toInt64) &&& (zl 6148914691236517205))).toUInt64 >>> ((zi 2).toInt64.toUInt64 &&& Int64.toUInt64 63)).toInt64) &&& (zl 3689348814741910323))) + (((((x0 - (((x0.toUInt64 >>> ((zi 1).toInt64.toUInt64 &&& Int64.toUInt64 63)).toInt64) &&& (zl 6148914691236517205))) &&& (zl 3689348814741910323)) + ((((x0 - (((x0.toUInt64 >>> ((zi 1).toInt64.toUInt64 &&& Int64.toUInt64 63)).toInt64) &&& (zl 6148914691236517205))).toUInt64 >>> ((zi 2).toInt64.toUInt64 &&& Int64.toUInt64 63)).toInt64) &&& (zl 3689348814741910323))).toUInt64 >>> ((zi 4).toInt64.toUInt64 &&& Int64.toUInt64 63)).toInt64)) &&& (zl 1085102592571150095)).toUInt64 >>> ((zi 8).toInt64.toUInt64 &&& Int64.toUInt64 63)).toInt64)) + ((((((((x0 - (((x0.toUInt64 >>> ((zi 1).toInt64.toUInt64 &&& Int64.toUInt64 63)).toInt64) &&& (zl 6148914691236517205))) &&& (zl 3689348814741910323)) + ((((x0 - (((x0.toUInt64 >>> ((zi 1).toInt64.toUInt64 &&& Int64.toUInt64 63)).toInt64) &&& (zl 6148914691236517205))).toUInt64 >>> ((zi 2).toInt64.toUInt64 &&& Int64.toUInt64 63)).toInt64) &&& (zl 3689348814741910323))) + (((((x0 - (((x0.toUInt64 >>> ((zi 1).toInt64.toUInt64 &&& Int64.toUInt64 63)).toInt64) &&& (zl 6148914691236517205))) &&& (zl 3689348814741910323)) + ((((x0 - (((x0.toUInt64 >>> ((zi 1).toInt64.toUInt64 &&& Int64.toUInt64 63)).toInt64) &&& (zl 6148914691236517205))).toUInt64 >>> ((zi 2).toInt64.toUInt64 &&& Int64.toUInt64 63)).toInt64) &&& (zl 3689348814741910323))).toUInt64 >>> ((zi 4).toInt64.toUInt64 &&& Int64.toUInt64 63)).toInt64)) &&& (zl 1085102592571150095)) + (((((((x0 - (((x0.toUInt64 >>> ((zi 1).toInt64.toUInt64 &&& Int64.toUInt64 63)).toInt64) &&& (zl 6148914691236517205))) &&& (zl 3689348814741910323)) + ((((x0 - (((x0.toUInt64 >>> ((zi 1).toInt64.toUInt64 &&& Int64.toUInt64 63)).toInt64) &&& (zl 6148914691236517205))).toUInt64 >>> ((zi 2).toInt64.toUInt64 &&& Int64.toUInt64 63)).toInt64) &&& (zl 3689348814741910323))) + (((((x0 - (((x0.toUInt64 >>> ((zi 1).toInt64.toUInt64 &&& Int64.toUInt64 63)).toInt64) &&& (zl 6148914691236517205))) &&& (zl 3689348814741910323)) + ((((x0 - (((x0.toUInt64 >>> ((zi 1).toInt64.toUInt64 &&& Int64.toUInt64 63)).toInt64) &&& (zl 6148914691236517205))).toUInt64 >>> ((zi 2).toInt64.toUInt64 &&& Int64.toUInt64 63)).toInt64) &&& (zl 3689348814741910323))).toUInt64 >>> ((zi 4).toInt64.toUInt64 &&& Int64.toUInt64 63)).toInt64)) &&& (zl 1085102592571150095)).toUInt64 >>> ((zi 8).toInt64.toUInt64 &&& Int64.toUInt64 63)).toInt64)).toUInt64 >>> ((zi 16).toInt64.toUInt64 &&& Int64.toUInt64 63)).toInt64)) + (((((((((x0 - (((x0.toUInt64 >>> ((zi 1).toInt64.toUInt64 &&& Int64.toUInt64 63)).toInt64) &&& (zl 6148914691236517205))) &&& (zl 3689348814741910323)) + ((((x0 - (((x0.toUInt64 >>> ((zi 1).toInt64.toUInt64 &&& Int64.toUInt64 63)).toInt64) &&& (zl 6148914691236517205))).toUInt64 >>> ((zi 2).toInt64.toUInt64 &&& Int64.toUInt64 63)).toInt64) &&& (zl 3689348814741910323))) + (((((x0 - (((x0.toUInt64 >>> ((zi 1).toInt64.toUInt64 &&& Int64.toUInt64 63)).toInt64) &&& (zl 6148914691236517205))) &&& (zl 3689348814741910323)) + ((((x0 - (((x0.toUInt64 >>> ((zi 1).toInt64.toUInt64 &&& Int64.toUInt64 63)).toInt64) &&& (zl 6148914691236517205))).toUInt64 >>> ((zi 2).toInt64.toUInt64 &&& Int64.toUInt64 63)).toInt64) &&& (zl 3689348814741910323))).toUInt64 >>> ((zi 4).toInt64.toUInt64 &&& Int64.toUInt64 63)).toInt64)) &&& (zl 1085102592571150095)) + (((((((x0 - (((x0.toUInt64 >>> ((zi 1).toInt64.toUInt64 &&& Int64.toUInt64 63)).toInt64) &&& (zl 6148914691236517205))) &&& (zl 3689348814741910323)) + ((((x0 - (((x0.toUInt64 >>> ((zi 1).toInt64.toUInt64 &&& Int64.toUInt64 63)).toInt64) &&& (zl 6148914691236517205))).toUInt64 >>> ((zi 2).toInt64.toUInt64 &&& Int64.toUInt64 63)).toInt64) &&& (zl 3689348814741910323))) + (((((x0 - (((x0.toUInt64 >>> ((zi 1).toInt64.toUInt64 &&& Int64.toUInt64 63)).toInt64) &&& (zl 6148914691236517205))) &&& (zl 3689348814741910323)) + ((((x0 - (((x0.toUInt64 >>> ((zi 1).toInt64.toUInt64 &&& Int64.toUInt64 63)).toInt64) &&& (zl 6148914691236517205))).toUInt64 >>> ((zi 2).toInt64.toUInt64 &&& Int64.toUInt64 63)).toInt64) &&& (zl 3689348814741910323))).toUInt64 >>> ((zi 4).toInt64.toUInt64 &&& Int64.toUInt64 63)).toInt64)) &&& (zl 1085102592571150095)).toUInt64 >>> ((zi 8).toInt64.toUInt64 &&& Int64.toUInt64 63)).toInt64)) + ((((((((x0 - (((x0.toUInt64 >>> ((zi 1).toInt64.toUInt64 &&& Int64.toUInt64 63)).toInt64) &&& (zl 6148914691236517205))) &&& (zl 3689348814741910323)) + ((((x0 - (((x0.toUInt64 >>> ((zi 1).toInt64.toUInt64 &&& Int64.toUInt64 63)).toInt64) &&& (zl 6148914691236517205))).toUInt64 >>> ((zi 2).toInt64.toUInt64 &&& Int64.toUInt64 63)).toInt64) &&& (zl 3689348814741910323))) + (((((x0 - (((x0.toUInt64 >>> ((zi 1).toInt64.toUInt64 &&& Int64.toUInt64 63)).toInt64) &&& (zl 6148914691236517205))) &&& (zl 3689348814741910323)) + ((((x0 - (((x0.toUInt64 >>> ((zi 1).toInt64.toUInt64 &&& Int64.toUInt64 63)).toInt64) &&& (zl 6148914691236517205))).toUInt64 >>> ((zi 2).toInt64.toUInt64 &&& Int64.toUInt64 63)).toInt64) &&& (zl 3689348814741910323))).toUInt64 >>> ((zi 4).toInt64.toUInt64 &&& Int64.toUInt64 63)).toInt64)) &&& (zl 1085102592571150095)) + (((((((x0 - (((x0.toUInt64 >>> ((zi 1).toInt64.toUInt64 &&& Int64.toUInt64 63)).toInt64) &&& (zl 6148914691236517205))) &&& (zl 3689348814741910323)) + ((((x0 - (((x0.toUInt64 >>> ((zi 1).toInt64.toUInt64 &&& Int64.toUInt64 63)).toInt64) &&& (zl 6148914691236517205))).toUInt64 >>> ((zi 2).toInt64.toUInt64 &&& Int64.toUInt64 63)).toInt64) &&& (zl 3689348814741910323))) + (((((x0 - (((x0.toUInt64 >>> ((zi 1).toInt64.toUInt64 &&& Int64.toUInt64 63)).toInt64) &&& (zl 6148914691236517205))) &&& (zl 3689348814741910323)) + ((((x0 - (((x0.toUInt64 >>> ((zi 1).toInt64.toUInt64 &&& Int64.toUInt64 63)).toInt64) &&& (zl 6148914691236517205))).toUInt64 >>> ((zi 2).toInt64.toUInt64 &&& Int64.toUInt64 63)).toInt64) &&& (zl 3689348814741910323))).toUInt64 >>> ((zi 4).toInt64.toUInt64 &&& Int64.toUInt64 63)).toInt64)) &&& (zl 1085102592571150095)).toUInt64 >>> ((zi 8).toInt64.toUInt64 &&& Int64.toUInt64 63)).toInt64)).toUInt64 >>> ((zi 16).toInt64.toUInt64 &&& Int64.toUInt64 63)).toInt64)).toUInt64 >>> ((zi 32).toInt64.toUInt64 &&& Int64.toUInt64 63)).toInt64)), .retAddr 0]) rfl (wr_lload_n rfl rfl rfl rfl (wr_l2i rfl rfl (wr_bipush (a := zi 127) rfl rfl rfl (wr_iand rfl rfl (wr_ireturn rfl rfl h0))))))))))))))))))))))))))))))))))))))))))))))))))
/-- java/lang/Long.getChars(JI[B)I : labels [24, 86] -/
theorem k607 {d : Nat} {x0 : Int64} {x2 : Int32} {x3 : Nat} {σ : cm_S} {Q : cm_O → Prop} (hd : 1 ≤ d) (h0 : (x0 < (zl 0) → (wp_r (d - 1) 607 (24, [.long x0, .retAddr 0, .int x2, .ref x3, .null, .null, .null, .int x2, .int (zi 1), .null, .null], [], σ) Q)) ∧
(¬ x0 < (zl 0) → (wp_r (d - 1) 607 (24, [.long (-x0), .retAddr 0, .int x2, .ref x3, .null, .null, .null, .int x2, .int (zi 0), .null, .null], [], σ) Q))) : wp_c d 607 [.long x0, .int x2, .ref x3] σ Q :=
  wc_in (by omega) rfl rfl (L := [.long x0, .retAddr 0, .int x2, .ref x3, .null, .null, .null, .null, .null, .null, .null]) rfl ((wr_iload_n rfl rfl rfl (wr_istore rfl rfl rfl (L2 := [.long x0, .retAddr 0, .int x2, .ref x3, .null, .null, .null, .int x2, .null, .null, .null]) rfl (wr_lload_n rfl rfl rfl rfl (wr_lconst (p := zl 0) rfl rfl rfl (wr_lcmp_ge rfl rfl rfl rfl (cr_ii h0 (fun c1 h2 => (wr_iconst rfl rfl (wr_goto rfl (wr_istore rfl rfl rfl (L2 := [.long x0, .retAddr 0, .int x2, .ref x3, .null, .null, .null, .int x2, .int (zi 1), .null, .null]) rfl (wr_iload rfl rfl rfl (wr_if_ne rfl rfl (cr_F (by decide) h2))))))) (fun c3 h4 => (wr_iconst rfl rfl (wr_istore rfl rfl rfl (L2 := [.long x0, .retAddr 0, .int x2, .ref x3, .null, .null, .null, .int x2, .int (zi 0), .null, .null]) rfl (wr_iload rfl rfl rfl (wr_if_ne rfl rfl (cr_T (by decide) (wr_lload_n rfl rfl rfl rfl (wr_lneg rfl rfl (wr_lstore_n rfl rfl rfl (L2 := [.long (-x0), .retAddr 0, .int x2, .ref x3, .null, .null, .null, .int x2, .int (zi 0), .null, .null]) rfl h4))))))))))))))))
theorem k607_24 {d : Nat} {x0 : Int64} {x2 : Int32} {x3 : Nat} {x4 : Value} {x5 : Value} {x6 : Value} {x7 : Int32} {x8 : Int32} {x9 : Value} {x10 : Value} {σ : cm_S} {Q : cm_O → Prop} (h0 : ((zl (-2147483648)) < x0 → (wp_r d 607 (86, [.long x0, .retAddr 0, .int x2, .ref x3, x4, x5, x6, .int x7, .int x8, x9, .int x0.toInt32], [], σ) Q)) ∧
(¬ (zl (-2147483648)) < x0 → (cm_tg σ 62 = 103 ∧
cm_in ((((x0 / (zl 100)) * (zl 100)) - x0).toInt32) (cm_ln σ 62) = true ∧
cm_tg σ x3 = 103 ∧
cm_in (x7 + zi (-1)) (cm_ln σ x3) = true ∧
cm_K cp ≤ x3 ∧
(∀ σ1, σ1 = cm_pI σ x3 (cm_ix (x7 + zi (-1))) (cm_I σ 62 (cm_ix ((((x0 / (zl 100)) * (zl 100)) - x0).toInt32))).toInt8.toInt32 → 
cm_tg σ1 63 = 103 ∧
cm_in ((((x0 / (zl 100)) * (zl 100)) - x0).toInt32) (cm_ln σ1 63) = true ∧
cm_in ((x7 + zi (-1)) + zi (-1)) (cm_ln σ1 x3) = true ∧
(∀ σ2, σ2 = cm_pI σ1 x3 (cm_ix ((x7 + zi (-1)) + zi (-1))) (cm_I σ1 63 (cm_ix ((((x0 / (zl 100)) * (zl 100)) - x0).toInt32))).toInt8.toInt32 → 
wp_r d 607 (24, [.long (x0 / (zl 100)), .retAddr 0, .int x2, .ref x3, .long (x0 / (zl 100)), .retAddr 0, .int ((((x0 / (zl 100)) * (zl 100)) - x0).toInt32), .int ((x7 + zi (-1)) + zi (-1)), .int x8, x9, x10], [], σ2) Q))))) : wp_r d 607 (24, [.long x0, .retAddr 0, .int x2, .ref x3, x4, x5, x6, .int x7, .int x8, x9, x10], [], σ) Q :=
  (wr_lload_n rfl rfl rfl rfl (wr_ldc2_w rfl (w := .long (zl (-2147483648))) rfl rfl (wr_lcmp_gt rfl rfl rfl rfl (cr_ii h0 (fun c1 h2 => (wr_lload_n rfl rfl rfl rfl (wr_l2i rfl rfl (wr_istore rfl rfl rfl (L2 := [.long x0, .retAddr 0, .int x2, .ref x3, x4, x5, x6, .int x7, .int x8, x9, .int x0.toInt32]) rfl h2)))) (fun c3 h4 => (wr_lload_n rfl rfl rfl rfl (wr_ldc2_w rfl (w := .long (zl 100)) rfl rfl (wr_ldiv rfl (by decide) rfl (wr_lstore rfl rfl rfl (L2 := [.long x0, .retAddr 0, .int x2, .ref x3, .long (x0 / (zl 100)), .retAddr 0, x6, .int x7, .int x8, x9, x10]) rfl (wr_lload rfl rfl rfl rfl (wr_ldc2_w rfl (w := .long (zl 100)) rfl rfl (wr_lmul rfl rfl (wr_lload_n rfl rfl rfl rfl (wr_lsub rfl rfl (wr_l2i rfl rfl (wr_istore rfl rfl rfl (L2 := [.long x0, .retAddr 0, .int x2, .ref x3, .long (x0 / (zl 100)), .retAddr 0, .int ((((x0 / (zl 100)) * (zl 100)) - x0).toInt32), .int x7, .int x8, x9, x10]) rfl (wr_lload rfl rfl rfl rfl (wr_lstore_n rfl rfl rfl (L2 := [.long (x0 / (zl 100)), .retAddr 0, .int x2, .ref x3, .long (x0 / (zl 100)), .retAddr 0, .int ((((x0 / (zl 100)) * (zl 100)) - x0).toInt32), .int x7, .int x8, x9, x10]) rfl (wr_aload_n rfl rfl rfl (wr_iinc rfl rfl rfl (L2 := [.long (x0 / (zl 100)), .retAddr 0, .int x2, .ref x3, .long (x0 / (zl 100)), .retAddr 0, .int ((((x0 / (zl 100)) * (zl 100)) - x0).toInt32), .int (x7 + zi (-1)), .int x8, x9, x10]) rfl (wr_iload rfl rfl rfl (wr_getstatic rfl (w := .ref 62) rfl rfl (wr_iload rfl rfl rfl (wr_baloadB rfl rfl h4.1 h4.2.1 (wr_bastoreB rfl rfl h4.2.2.1 h4.2.2.2.1 h4.2.2.2.2.1 (wr_aload_n rfl rfl rfl (wr_iinc rfl rfl rfl (L2 := [.long (x0 / (zl 100)), .retAddr 0, .int x2, .ref x3, .long (x0 / (zl 100)), .retAddr 0, .int ((((x0 / (zl 100)) * (zl 100)) - x0).toInt32), .int ((x7 + zi (-1)) + zi (-1)), .int x8, x9, x10]) rfl (wr_iload rfl rfl rfl (wr_getstatic rfl (w := .ref 63) rfl rfl (wr_iload rfl rfl rfl (wr_baloadB rfl rfl (h4.2.2.2.2.2 _ rfl).1 (h4.2.2.2.2.2 _ rfl).2.1 (wr_bastoreB rfl rfl h4.2.2.1 (h4.2.2.2.2.2 _ rfl).2.2.1 h4.2.2.2.2.1 (wr_goto rfl ((h4.2.2.2.2.2 _ rfl).2.2.2 _ rfl))))))))))))))))))))))))))))))))))
theorem k607_86 {d : Nat} {x0 : Int64} {x2 : Int32} {x3 : Nat} {x4 : Value} {x5 : Value} {x6 : Value} {x7 : Int32} {x8 : Int32} {x9 : Value} {x10 : Int32} {σ : cm_S} {Q : cm_O → Prop} (h0 : ((zi (-100)) < x10 → (cm_tg σ 62 = 103 ∧
cm_in (-x10) (cm_ln σ 62) = true ∧
cm_tg σ x3 = 103 ∧
cm_in (x7 + zi (-1)) (cm_ln σ x3) = true ∧
cm_K cp ≤ x3 ∧
(∀ σ1, σ1 = cm_pI σ x3 (cm_ix (x7 + zi (-1))) (cm_I σ 62 (cm_ix (-x10))).toInt8.toInt32 → 
(x10 < (zi (-9)) → (cm_tg σ1 63 = 103 ∧
cm_in (-x10) (cm_ln σ1 63) = true ∧
cm_in ((x7 + zi (-1)) + zi (-1)) (cm_ln σ1 x3) = true ∧
(∀ σ2, σ2 = cm_pI σ1 x3 (cm_ix ((x7 + zi (-1)) + zi (-1))) (cm_I σ1 63 (cm_ix (-x10))).toInt8.toInt32 → 
(x8 = (zi 0) → (Q (false, .int ((x7 + zi (-1)) + zi (-1)), σ2))) ∧
(¬ x8 = (zi 0) → (cm_in (((x7 + zi (-1)) + zi (-1)) + zi (-1)) (cm_ln σ2 x3) = true ∧
(∀ σ3, σ3 = cm_pI σ2 x3 (cm_ix (((x7 + zi (-1)) + zi (-1)) + zi (-1))) (zi 45).toInt8.toInt32 → 
Q (false, .int (((x7 + zi (-1)) + zi (-1)) + zi (-1)), σ3))))))) ∧
(¬ x10 < (zi (-9)) → ((x8 = (zi 0) → (Q (false, .int (x7 + zi (-1)), σ1))) ∧
(¬ x8 = (zi 0) → (cm_in ((x7 + zi (-1)) + zi (-1)) (cm_ln σ1 x3) = true ∧
(∀ σ4, σ4 = cm_pI σ1 x3 (cm_ix ((x7 + zi (-1)) + zi (-1))) (zi 45).toInt8.toInt32 → 
Q (false, .int ((x7 + zi (-1)) + zi (-1)), σ4))))))))) ∧
(¬ (zi (-100)) < x10 → (cm_tg σ 62 = 103 ∧
cm_in (((x10 / (zi 100)) * (zi 100)) - x10) (cm_ln σ 62) = true ∧
cm_tg σ x3 = 103 ∧
cm_in (x7 + zi (-1)) (cm_ln σ x3) = true ∧
cm_K cp ≤ x3 ∧
(∀ σ5, σ5 = cm_pI σ x3 (cm_ix (x7 + zi (-1))) (cm_I σ 62 (cm_ix (((x10 / (zi 100)) * (zi 100)) - x10))).toInt8.toInt32 → 
cm_tg σ5 63 = 103 ∧
cm_in (((x10 / (zi 100)) * (zi 100)) - x10) (cm_ln σ5 63) = true ∧
cm_in ((x7 + zi (-1)) + zi (-1)) (cm_ln σ5 x3) = true ∧
(∀ σ6, σ6 = cm_pI σ5 x3 (cm_ix ((x7 + zi (-1)) + zi (-1))) (cm_I σ5 63 (cm_ix (((x10 / (zi 100)) * (zi 100)) - x10))).toInt8.toInt32 → 
wp_r d 607 (86, [.long x0, .retAddr 0, .int x2, .ref x3, x4, x5, .int (((x10 / (zi 100)) * (zi 100)) - x10), .int ((x7 + zi (-1)) + zi (-1)), .int x8, .int (x10 / (zi 100)), .int (x10 / (zi 100))], [], σ6) Q))))) : wp_r d 607 (86, [.long x0, .retAddr 0, .int x2, .ref x3, x4, x5, x6, .int x7, .int x8, x9, .int x10], [], σ) Q :=
  (wr_iload rfl rfl rfl (wr_bipush (a := zi (-100)) rfl rfl rfl (wr_icmp_gt rfl rfl (cr_ii h0 (fun c1 h2 => (wr_aload_n rfl rfl rfl (wr_iinc rfl rfl rfl (L2 := [.long x0, .retAddr 0, .int x2, .ref x3, x4, x5, x6, .int (x7 + zi (-1)), .int x8, x9, .int x10]) rfl (wr_iload rfl rfl rfl (wr_getstatic rfl (w := .ref 62) rfl rfl (wr_iload rfl rfl rfl (wr_ineg rfl rfl (wr_baloadB rfl rfl h2.1 h2.2.1 (wr_bastoreB rfl rfl h2.2.2.1 h2.2.2.2.1 h2.2.2.2.2.1 (wr_iload rfl rfl rfl (wr_bipush (a := zi (-9)) rfl rfl rfl (wr_icmp_ge rfl rfl (cr_ii (h2.2.2.2.2.2 _ rfl) (fun c3 h4 => (wr_aload_n rfl rfl rfl (wr_iinc rfl rfl rfl (L2 := [.long x0, .retAddr 0, .int x2, .ref x3, x4, x5, x6, .int ((x7 + zi (-1)) + zi (-1)), .int x8, x9, .int x10]) rfl (wr_iload rfl rfl rfl (wr_getstatic rfl (w := .ref 63) rfl rfl (wr_iload rfl rfl rfl (wr_ineg rfl rfl (wr_baloadB rfl rfl h4.1 h4.2.1 (wr_bastoreB rfl rfl h2.2.2.1 h4.2.2.1 h2.2.2.2.2.1 (wr_iload rfl rfl rfl (wr_if_eq rfl rfl (cr_ii (h4.2.2.2 _ rfl) (fun c5 h6 => (wr_iload rfl rfl rfl (wr_ireturn rfl rfl h6))) (fun c7 h8 => (wr_aload_n rfl rfl rfl (wr_iinc rfl rfl rfl (L2 := [.long x0, .retAddr 0, .int x2, .ref x3, x4, x5, x6, .int (((x7 + zi (-1)) + zi (-1)) + zi (-1)), .int x8, x9, .int x10]) rfl (wr_iload rfl rfl rfl (wr_bipush (a := zi 45) rfl rfl rfl (wr_bastoreB rfl rfl h2.2.2.1 h8.1 h2.2.2.2.2.1 (wr_iload rfl rfl rfl (wr_ireturn rfl rfl (h8.2 _ rfl))))))))))))))))))))) (fun c9 h10 => (wr_iload rfl rfl rfl (wr_if_eq rfl rfl (cr_ii h10 (fun c11 h12 => (wr_iload rfl rfl rfl (wr_ireturn rfl rfl h12))) (fun c13 h14 => (wr_aload_n rfl rfl rfl (wr_iinc rfl rfl rfl (L2 := [.long x0, .retAddr 0, .int x2, .ref x3, x4, x5, x6, .int ((x7 + zi (-1)) + zi (-1)), .int x8, x9, .int x10]) rfl (wr_iload rfl rfl rfl (wr_bipush (a := zi 45) rfl rfl rfl (wr_bastoreB rfl rfl h2.2.2.1 h14.1 h2.2.2.2.2.1 (wr_iload rfl rfl rfl (wr_ireturn rfl rfl (h14.2 _ rfl)))))))))))))))))))))))))) (fun c15 h16 => (wr_iload rfl rfl rfl (wr_bipush (a := zi 100) rfl rfl rfl (wr_idiv rfl (by decide) rfl (wr_istore rfl rfl rfl (L2 := [.long x0, .retAddr 0, .int x2, .ref x3, x4, x5, x6, .int x7, .int x8, .int (x10 / (zi 100)), .int x10]) rfl (wr_iload rfl rfl rfl (wr_bipush (a := zi 100) rfl rfl rfl (wr_imul rfl rfl (wr_iload rfl rfl rfl (wr_isub rfl rfl (wr_istore rfl rfl rfl (L2 := [.long x0, .retAddr 0, .int x2, .ref x3, x4, x5, .int (((x10 / (zi 100)) * (zi 100)) - x10), .int x7, .int x8, .int (x10 / (zi 100)), .int x10]) rfl (wr_iload rfl rfl rfl (wr_istore rfl rfl rfl (L2 := [.long x0, .retAddr 0, .int x2, .ref x3, x4, x5, .int (((x10 / (zi 100)) * (zi 100)) - x10), .int x7, .int x8, .int (x10 / (zi 100)), .int (x10 / (zi 100))]) rfl (wr_aload_n rfl rfl rfl (wr_iinc rfl rfl rfl (L2 := [.long x0, .retAddr 0, .int x2, .ref x3, x4, x5, .int (((x10 / (zi 100)) * (zi 100)) - x10), .int (x7 + zi (-1)), .int x8, .int (x10 / (zi 100)), .int (x10 / (zi 100))]) rfl (wr_iload rfl rfl rfl (wr_getstatic rfl (w := .ref 62) rfl rfl (wr_iload rfl rfl rfl (wr_baloadB rfl rfl h16.1 h16.2.1 (wr_bastoreB rfl rfl h16.2.2.1 h16.2.2.2.1 h16.2.2.2.2.1 (wr_aload_n rfl rfl rfl (wr_iinc rfl rfl rfl (L2 := [.long x0, .retAddr 0, .int x2, .ref x3, x4, x5, .int (((x10 / (zi 100)) * (zi 100)) - x10), .int ((x7 + zi (-1)) + zi (-1)), .int x8, .int (x10 / (zi 100)), .int (x10 / (zi 100))]) rfl (wr_iload rfl rfl rfl (wr_getstatic rfl (w := .ref 63) rfl rfl (wr_iload rfl rfl rfl (wr_baloadB rfl rfl (h16.2.2.2.2.2 _ rfl).1 (h16.2.2.2.2.2 _ rfl).2.1 (wr_bastoreB rfl rfl h16.2.2.1 (h16.2.2.2.2.2 _ rfl).2.2.1 h16.2.2.2.2.1 (wr_goto rfl ((h16.2.2.2.2.2 _ rfl).2.2.2 _ rfl)))))))))))))))))))))))))))))))))
/-- java/lang/Long.numberOfTrailingZeros(J)I : labels [] -/
theorem k608 {d : Nat} {x0 : Int64} {σ : cm_S} {Q : cm_O → Prop} (hd : 2 ≤ d) (h0 : (x0.toInt32 = (zi 0) → (wp_c (d - 1) 596 [.int (((x0.toUInt64 >>> ((zi 32).toInt64.toUInt64 &&& Int64.toUInt64 63)).toInt64).toInt32)] σ (qi fun r1 σ1 => Q (false, .int ((zi 32) + r1), σ1)))) ∧
(¬ x0.toInt32 = (zi 0) → (wp_c (d - 1) 596 [.int x0.toInt32] σ (qi fun r2 σ2 => Q (false, .int r2, σ2))))) : wp_c d 608 [.long x0] σ Q :=
  wc_in (by omega) rfl rfl (L := [.long x0, .retAddr 0, .null]) rfl (have hd : 1 ≤ d - 1 := (by omega); (wr_lload_n rfl rfl rfl rfl (wr_l2i rfl rfl (wr_istore_n rfl rfl rfl (L2 := [.long x0, .retAddr 0, .int x0.toInt32]) rfl (wr_iload_n rfl rfl rfl (wr_if_ne rfl rfl (cr_ii h0 (fun c1 h2 => (wr_bipush (a := zi 32) rfl rfl rfl (wr_lload_n rfl rfl rfl rfl (wr_bipush (a := zi 32) rfl rfl rfl (wr_lushr rfl rfl (wr_l2i rfl rfl (wr_invsi rfl hd rfl (fun _ => rfl) rfl rfl (wm_i h2 fun r1 σ1 h3 => (wr_iadd rfl rfl (wr_goto rfl (wr_ireturn rfl rfl h3))))))))))) (fun c4 h5 => (wr_iload_n rfl rfl rfl (wr_invsi rfl hd rfl (fun _ => rfl) rfl rfl (wm_i h5 fun r2 σ2 h6 => (wr_ireturn rfl rfl h6))))))))))))
/-- java/lang/Long.stringSize(J)I : labels [20] -/
theorem k609 {d : Nat} {x0 : Int64} {σ : cm_S} {Q : cm_O → Prop} (hd : 1 ≤ d) (h0 : (x0 < (zl 0) → (wp_r (d - 1) 609 (20, [.long x0, .retAddr 0, .int (zi 1), .long (zl (-10)), .retAddr 0, .int (zi 1)], [], σ) Q)) ∧
(¬ x0 < (zl 0) → (wp_r (d - 1) 609 (20, [.long (-x0), .retAddr 0, .int (zi 0), .long (zl (-10)), .retAddr 0, .int (zi 1)], [], σ) Q))) : wp_c d 609 [.long x0] σ Q :=
  wc_in (by omega) rfl rfl (L := [.long x0, .retAddr 0, .null, .null, .null, .null]) rfl ((wr_iconst rfl rfl (wr_istore_n rfl rfl rfl (L2 := [.long x0, .retAddr 0, .int (zi 1), .null, .null, .null]) rfl (wr_lload_n rfl rfl rfl rfl (wr_lconst (p := zl 0) rfl rfl rfl (wr_lcmp_lt rfl rfl rfl rfl (cr_ii h0 (fun c1 h2 => (wr_ldc2_w rfl (w := .long (zl (-10))) rfl rfl (wr_lstore_n rfl rfl rfl (L2 := [.long x0, .retAddr 0, .int (zi 1), .long (zl (-10)), .retAddr 0, .null]) rfl (wr_iconst rfl rfl (wr_istore rfl rfl rfl (L2 := [.long x0, .retAddr 0, .int (zi 1), .long (zl (-10)), .retAddr 0, .int (zi 1)]) rfl h2))))) (fun c3 h4 => (wr_iconst rfl rfl (wr_istore_n rfl rfl rfl (L2 := [.long x0, .retAddr 0, .int (zi 0), .null, .null, .null]) rfl (wr_lload_n rfl rfl rfl rfl (wr_lneg rfl rfl (wr_lstore_n rfl rfl rfl (L2 := [.long (-x0), .retAddr 0, .int (zi 0), .null, .null, .null]) rfl (wr_ldc2_w rfl (w := .long (zl (-10))) rfl rfl (wr_lstore_n rfl rfl rfl (L2 := [.long (-x0), .retAddr 0, .int (zi 0), .long (zl (-10)), .retAddr 0, .null]) rfl (wr_iconst rfl rfl (wr_istore rfl rfl rfl (L2 := [.long (-x0), .retAddr 0, .int (zi 0), .long (zl (-10)), .retAddr 0, .int (zi 1)]) rfl h4)))))))))))))))))
theorem k609_20 {d : Nat} {x0 : Int64} {x2 : Int32} {x3 : Int64} {x5 : Int32} {σ : cm_S} {Q : cm_O → Prop} (h0 : (x5 < (zi 19) → ((x3 < x0 → (Q (false, .int (x5 + x2), σ))) ∧
(¬ x3 < x0 → (wp_r d 609 (20, [.long x0, .retAddr 0, .int x2, .long ((zl 10) * x3), .retAddr 0, .int (x5 + zi 1)], [], σ) Q)))) ∧
(¬ x5 < (zi 19) → (Q (false, .int ((zi 19) + x2), σ)))) : wp_r d 609 (20, [.long x0, .retAddr 0, .int x2, .long x3, .retAddr 0, .int x5], [], σ) Q :=
  (wr_iload rfl rfl rfl (wr_bipush (a := zi 19) rfl rfl rfl (wr_icmp_ge rfl rfl (cr_ii h0 (fun c1 h2 => (wr_lload_n rfl rfl rfl rfl (wr_lload_n rfl rfl rfl rfl (wr_lcmp_le rfl rfl rfl rfl (cr_ii h2 (fun c3 h4 => (wr_iload rfl rfl rfl (wr_iload_n rfl rfl rfl (wr_iadd rfl rfl (wr_ireturn rfl rfl h4))))) (fun c5 h6 => (wr_ldc2_w rfl (w := .long (zl 10)) rfl rfl (wr_lload_n rfl rfl rfl rfl (wr_lmul rfl rfl (wr_lstore_n rfl rfl rfl (L2 := [.long x0, .retAddr 0, .int x2, .long ((zl 10) * x3), .retAddr 0, .int x5]) rfl (wr_iinc rfl rfl rfl (L2 := [.long x0, .retAddr 0, .int x2, .long ((zl 10) * x3), .retAddr 0, .int (x5 + zi 1)]) rfl (wr_goto rfl h6)))))))))))) (fun c7 h8 => (wr_bipush (a := zi 19) rfl rfl rfl (wr_iload_n rfl rfl rfl (wr_iadd rfl rfl (wr_ireturn rfl rfl h8)))))))))
/-- java/lang/Long.toString(J)Ljava/lang/String; : labels [] -/
theorem k610 {d : Nat} {x0 : Int64} {σ : cm_S} {Q : cm_O → Prop} (hd : 2 ≤ d) (h0 : wp_c (d - 1) 609 [.long x0] σ (qi fun r1 σ1 => (0 ≤ r1.toInt ∧ r1.toInt ≤ 60000000) ∧
(∀ σ2, σ2 = cm_al σ1 103 (cm_ix r1) → 
wp_c (d - 1) 607 [.long x0, .int r1, .ref (cm_nx σ1)] σ2 (qi fun r3 σ3 => ∀ σ4, σ4 = cm_al σ3 29 4 → 
wp_c (d - 1) 517 [.ref (cm_nx σ3), .ref (cm_nx σ1), .int (zi 0)] σ4 (qv fun σ5 => Q (false, .ref (cm_nx σ3), σ5)))))) : wp_c d 610 [.long x0] σ Q :=
  wc_in (by omega) rfl rfl (L := [.long x0, .retAddr 0, .null, .null]) rfl (have hd : 1 ≤ d - 1 := (by omega); (wr_lload_n rfl rfl rfl rfl (wr_invsi rfl hd rfl (fun _ => rfl) rfl rfl (wm_i h0 fun r1 σ1 h1 => (wr_istore_n rfl rfl rfl (L2 := [.long x0, .retAddr 0, .int r1, .null]) rfl (wr_getstatic rfl (w := .int (zi 1)) rfl rfl (wr_if_eq rfl rfl (cr_F (by decide) (wr_iload_n rfl rfl rfl (wr_newarray rfl rfl h1.1 (wr_astore_n rfl rfl rfl (L2 := [.long x0, .retAddr 0, .int r1, .ref (cm_nx σ1)]) rfl (wr_lload_n rfl rfl rfl rfl (wr_iload_n rfl rfl rfl (wr_aload_n rfl rfl rfl (wr_invsi rfl hd rfl (fun _ => rfl) rfl rfl (wm_i (h1.2 _ rfl) fun r3 σ3 h2 => (wr_pop rfl rfl rfl (wr_new rfl rfl (wr_dup rfl rfl rfl (wr_aload_n rfl rfl rfl (wr_iconst rfl rfl (wr_invpv rfl hd rfl (fun _ => rfl) rfl (cr_60 (tg_new _ _ _) rfl) rfl (wm_v (h2 _ rfl) fun σ5 h3 => (wr_areturn rfl h3))))))))))))))))))))))))
/-- jdk/internal/util/ArraysSupport.hashCode(I[CII)I : labels [] -/
theorem k570 {d : Nat} {x0 : Int32} {x1 : Nat} {x2 : Int32} {x3 : Int32} {σ : cm_S} {Q : cm_O → Prop} (hd : 1 ≤ d) (h0 : (x2 < (x2 + x3) → (False)) ∧
(¬ x2 < (x2 + x3) → (Q (false, .int x0, σ)))) : wp_c d 570 [.int x0, .ref x1, .int x2, .int x3] σ Q :=
  wc_in (by omega) rfl rfl (L := [.int x0, .ref x1, .int x2, .int x3, .null, .null]) rfl ((wr_iload_n rfl rfl rfl (wr_iload_n rfl rfl rfl (wr_iadd rfl rfl (wr_istore rfl rfl rfl (L2 := [.int x0, .ref x1, .int x2, .int x3, .int (x2 + x3), .null]) rfl (wr_iload_n rfl rfl rfl (wr_istore rfl rfl rfl (L2 := [.int x0, .ref x1, .int x2, .int x3, .int (x2 + x3), .int x2]) rfl (wr_iload rfl rfl rfl (wr_iload rfl rfl rfl (wr_icmp_ge rfl rfl (cr_ii h0 (fun c1 h2 => (wr_bipush (a := zi 31) rfl rfl rfl (wr_iload_n rfl rfl rfl (wr_imul rfl rfl (wr_aload_n rfl rfl rfl (wr_iload rfl rfl rfl (False.elim h2))))))) (fun c3 h4 => (wr_iload_n rfl rfl rfl (wr_ireturn rfl rfl h4))))))))))))))
/-- jdk/internal/util/ArraysSupport.hashCode(I[BII)I : labels [8] -/
theorem k571 {d : Nat} {x0 : Int32} {x1 : Nat} {x2 : Int32} {x3 : Int32} {σ : cm_S} {Q : cm_O → Prop} (hd : 1 ≤ d) (h0 : wp_r (d - 1) 571 (8, [.int x0, .ref x1, .int x2, .int x3, .int (x2 + x3), .int x2], [], σ) Q) : wp_c d 571 [.int x0, .ref x1, .int x2, .int x3] σ Q :=
  wc_in (by omega) rfl rfl (L := [.int x0, .ref x1, .int x2, .int x3, .null, .null]) rfl ((wr_iload_n rfl rfl rfl (wr_iload_n rfl rfl rfl (wr_iadd rfl rfl (wr_istore rfl rfl rfl (L2 := [.int x0, .ref x1, .int x2, .int x3, .int (x2 + x3), .null]) rfl (wr_iload_n rfl rfl rfl (wr_istore rfl rfl rfl (L2 := [.int x0, .ref x1, .int x2, .int x3, .int (x2 + x3), .int x2]) rfl h0)))))))
theorem k571_8 {d : Nat} {x0 : Int32} {x1 : Nat} {x2 : Int32} {x3 : Int32} {x4 : Int32} {x5 : Int32} {σ : cm_S} {Q : cm_O → Prop} (h0 : (x5 < x4 → (cm_tg σ x1 = 103 ∧
cm_in x5 (cm_ln σ x1) = true ∧
wp_r d 571 (8, [.int (((zi 31) * x0) + (cm_I σ x1 (cm_ix x5))), .ref x1, .int x2, .int x3, .int x4, .int (x5 + zi 1)], [], σ) Q)) ∧
(¬ x5 < x4 → (Q (false, .int x0, σ)))) : wp_r d 571 (8, [.int x0, .ref x1, .int x2, .int x3, .int x4, .int x5], [], σ) Q :=
  (wr_iload rfl rfl rfl (wr_iload rfl rfl rfl (wr_icmp_ge rfl rfl (cr_ii h0 (fun c1 h2 => (wr_bipush (a := zi 31) rfl rfl rfl (wr_iload_n rfl rfl rfl (wr_imul rfl rfl (wr_aload_n rfl rfl rfl (wr_iload rfl rfl rfl (wr_baloadB rfl rfl h2.1 h2.2.1 (wr_iadd rfl rfl (wr_istore_n rfl rfl rfl (L2 := [.int (((zi 31) * x0) + (cm_I σ x1 (cm_ix x5))), .ref x1, .int x2, .int x3, .int x4, .int x5]) rfl (wr_iinc rfl rfl rfl (L2 := [.int (((zi 31) * x0) + (cm_I σ x1 (cm_ix x5))), .ref x1, .int x2, .int x3, .int x4, .int (x5 + zi 1)]) rfl (wr_goto rfl h2.2.2))))))))))) (fun c3 h4 => (wr_iload_n rfl rfl rfl (wr_ireturn rfl rfl h4)))))))
/-- jdk/internal/util/ArraysSupport.hashCode(I[SII)I : labels [] -/
theorem k572 {d : Nat} {x0 : Int32} {x1 : Nat} {x2 : Int32} {x3 : Int32} {σ : cm_S} {Q : cm_O → Prop} (hd : 1 ≤ d) (h0 : (x2 < (x2 + x3) → (False)) ∧
(¬ x2 < (x2 + x3) → (Q (false, .int x0, σ)))) : wp_c d 572 [.int x0, .ref x1, .int x2, .int x3] σ Q :=
  wc_in (by omega) rfl rfl (L := [.int x0, .ref x1, .int x2, .int x3, .null, .null]) rfl ((wr_iload_n rfl rfl rfl (wr_iload_n rfl rfl rfl (wr_iadd rfl rfl (wr_istore rfl rfl rfl (L2 := [.int x0, .ref x1, .int x2, .int x3, .int (x2 + x3), .null]) rfl (wr_iload_n rfl rfl rfl (wr_istore rfl rfl rfl (L2 := [.int x0, .ref x1, .int x2, .int x3, .int (x2 + x3), .int x2]) rfl (wr_iload rfl rfl rfl (wr_iload rfl rfl rfl (wr_icmp_ge rfl rfl (cr_ii h0 (fun c1 h2 => (wr_bipush (a := zi 31) rfl rfl rfl (wr_iload_n rfl rfl rfl (wr_imul rfl rfl (wr_aload_n rfl rfl rfl (wr_iload rfl rfl rfl (False.elim h2))))))) (fun c3 h4 => (wr_iload_n rfl rfl rfl (wr_ireturn rfl rfl h4))))))))))))))
/-- jdk/internal/util/ArraysSupport.hashCode(I[III)I : labels [8] -/
theorem k573 {d : Nat} {x0 : Int32} {x1 : Nat} {x2 : Int32} {x3 : Int32} {σ : cm_S} {Q : cm_O → Prop} (hd : 1 ≤ d) (h0 : wp_r (d - 1) 573 (8, [.int x0, .ref x1, .int x2, .int x3, .int (x2 + x3), .int x2], [], σ) Q) : wp_c d 573 [.int x0, .ref x1, .int x2, .int x3] σ Q :=
  wc_in (by omega) rfl rfl (L := [.int x0, .ref x1, .int x2, .int x3, .null, .null]) rfl ((wr_iload_n rfl rfl rfl (wr_iload_n rfl rfl rfl (wr_iadd rfl rfl (wr_istore rfl rfl rfl (L2 := [.int x0, .ref x1, .int x2, .int x3, .int (x2 + x3), .null]) rfl (wr_iload_n rfl rfl rfl (wr_istore rfl rfl rfl (L2 := [.int x0, .ref x1, .int x2, .int x3, .int (x2 + x3), .int x2]) rfl h0)))))))
theorem k573_8 {d : Nat} {x0 : Int32} {x1 : Nat} {x2 : Int32} {x3 : Int32} {x4 : Int32} {x5 : Int32} {σ : cm_S} {Q : cm_O → Prop} (h0 : (x5 < x4 → (cm_tg σ x1 = 101 ∧
cm_in x5 (cm_ln σ x1) = true ∧
wp_r d 573 (8, [.int (((zi 31) * x0) + (cm_I σ x1 (cm_ix x5))), .ref x1, .int x2, .int x3, .int x4, .int (x5 + zi 1)], [], σ) Q)) ∧
(¬ x5 < x4 → (Q (false, .int x0, σ)))) : wp_r d 573 (8, [.int x0, .ref x1, .int x2, .int x3, .int x4, .int x5], [], σ) Q :=
  (wr_iload rfl rfl rfl (wr_iload rfl rfl rfl (wr_icmp_ge rfl rfl (cr_ii h0 (fun c1 h2 => (wr_bipush (a := zi 31) rfl rfl rfl (wr_iload_n rfl rfl rfl (wr_imul rfl rfl (wr_aload_n rfl rfl rfl (wr_iload rfl rfl rfl (wr_iaload rfl rfl h2.1 h2.2.1 (wr_iadd rfl rfl (wr_istore_n rfl rfl rfl (L2 := [.int (((zi 31) * x0) + (cm_I σ x1 (cm_ix x5))), .ref x1, .int x2, .int x3, .int x4, .int x5]) rfl (wr_iinc rfl rfl rfl (L2 := [.int (((zi 31) * x0) + (cm_I σ x1 (cm_ix x5))), .ref x1, .int x2, .int x3, .int x4, .int (x5 + zi 1)]) rfl (wr_goto rfl h2.2.2))))))))))) (fun c3 h4 => (wr_iload_n rfl rfl rfl (wr_ireturn rfl rfl h4)))))))
/-- jdk/internal/util/ArraysSupport.hugeLength(II)I : labels [] -/
theorem k574 {d : Nat} {x0 : Int32} {x1 : Int32} {σ : cm_S} {Q : cm_O → Prop} (hd : 1 ≤ d) (h0 : ((x0 + x1) < (zi 0) → (False)) ∧
(¬ (x0 + x1) < (zi 0) → (((zi 2147483639) < (x0 + x1) → (Q (false, .int (x0 + x1), σ))) ∧
(¬ (zi 2147483639) < (x0 + x1) → (Q (false, .int (zi 2147483639), σ)))))) : wp_c d 574 [.int x0, .int x1] σ Q :=
  wc_in (by omega) rfl rfl (L := [.int x0, .int x1, .null]) rfl ((wr_iload_n rfl rfl rfl (wr_iload_n rfl rfl rfl (wr_iadd rfl rfl (wr_istore_n rfl rfl rfl (L2 := [.int x0, .int x1, .int (x0 + x1)]) rfl (wr_iload_n rfl rfl rfl (wr_if_ge rfl rfl (cr_ii h0 (fun c1 h2 => (False.elim h2)) (fun c3 h4 => (wr_iload_n rfl rfl rfl (wr_ldc rfl (w := .int (zi 2147483639)) rfl rfl (wr_icmp_gt rfl rfl (cr_ii h4 (fun c5 h6 => (wr_iload_n rfl rfl rfl (wr_ireturn rfl rfl h6))) (fun c7 h8 => (wr_ldc rfl (w := .int (zi 2147483639)) rfl rfl (wr_ireturn rfl rfl h8))))))))))))))))
/-- jdk/internal/util/ArraysSupport.newLength(III)I : labels [] -/
theorem k575 {d : Nat} {x0 : Int32} {x1 : Int32} {x2 : Int32} {σ : cm_S} {Q : cm_O → Prop} (hd : 2 ≤ d) (h0 : wp_c (d - 1) 579 [.int x1, .int x2] σ (qi fun r1 σ1 => ((zi 0) < (x0 + r1) → (((zi 2147483639) < (x0 + r1) → (wp_c (d - 1) 574 [.int x0, .int x1] σ1 (qi fun r2 σ2 => Q (false, .int r2, σ2)))) ∧
(¬ (zi 2147483639) < (x0 + r1) → (Q (false, .int (x0 + r1), σ1))))) ∧
(¬ (zi 0) < (x0 + r1) → (wp_c (d - 1) 574 [.int x0, .int x1] σ1 (qi fun r3 σ3 => Q (false, .int r3, σ3)))))) : wp_c d 575 [.int x0, .int x1, .int x2] σ Q :=
  wc_in (by omega) rfl rfl (L := [.int x0, .int x1, .int x2, .null]) rfl (have hd : 1 ≤ d - 1 := (by omega); (wr_iload_n rfl rfl rfl (wr_iload_n rfl rfl rfl (wr_iload_n rfl rfl rfl (wr_invsi rfl hd rfl (fun _ => rfl) rfl rfl (wm_i h0 fun r1 σ1 h1 => (wr_iadd rfl rfl (wr_istore_n rfl rfl rfl (L2 := [.int x0, .int x1, .int x2, .int (x0 + r1)]) rfl (wr_iconst rfl rfl (wr_iload_n rfl rfl rfl (wr_icmp_ge rfl rfl (cr_ii h1 (fun c2 h3 => (wr_iload_n rfl rfl rfl (wr_ldc rfl (w := .int (zi 2147483639)) rfl rfl (wr_icmp_gt rfl rfl (cr_ii h3 (fun c4 h5 => (wr_iload_n rfl rfl rfl (wr_iload_n rfl rfl rfl (wr_invsi rfl hd rfl (fun _ => rfl) rfl rfl (wm_i h5 fun r2 σ2 h6 => (wr_ireturn rfl rfl h6)))))) (fun c7 h8 => (wr_iload_n rfl rfl rfl (wr_ireturn rfl rfl h8)))))))) (fun c9 h10 => (wr_iload_n rfl rfl rfl (wr_iload_n rfl rfl rfl (wr_invsi rfl hd rfl (fun _ => rfl) rfl rfl (wm_i h10 fun r3 σ3 h11 => (wr_ireturn rfl rfl h11))))))))))))))))))
/-- jdk/internal/util/ArraysSupport.signedHashCode(I[BII)I : labels [8] -/
theorem k576 {d : Nat} {x0 : Int32} {x1 : Nat} {x2 : Int32} {x3 : Int32} {σ : cm_S} {Q : cm_O → Prop} (hd : 1 ≤ d) (h0 : wp_r (d - 1) 576 (8, [.int x0, .ref x1, .int x2, .int x3, .int (x2 + x3), .int x2], [], σ) Q) : wp_c d 576 [.int x0, .ref x1, .int x2, .int x3] σ Q :=
  wc_in (by omega) rfl rfl (L := [.int x0, .ref x1, .int x2, .int x3, .null, .null]) rfl ((wr_iload_n rfl rfl rfl (wr_iload_n rfl rfl rfl (wr_iadd rfl rfl (wr_istore rfl rfl rfl (L2 := [.int x0, .ref x1, .int x2, .int x3, .int (x2 + x3), .null]) rfl (wr_iload_n rfl rfl rfl (wr_istore rfl rfl rfl (L2 := [.int x0, .ref x1, .int x2, .int x3, .int (x2 + x3), .int x2]) rfl h0)))))))
theorem k576_8 {d : Nat} {x0 : Int32} {x1 : Nat} {x2 : Int32} {x3 : Int32} {x4 : Int32} {x5 : Int32} {σ : cm_S} {Q : cm_O → Prop} (h0 : (x5 < x4 → (cm_tg σ x1 = 103 ∧
cm_in x5 (cm_ln σ x1) = true ∧
wp_r d 576 (8, [.int (((zi 31) * x0) + ((cm_I σ x1 (cm_ix x5)) &&& (zi 255))), .ref x1, .int x2, .int x3, .int x4, .int (x5 + zi 1)], [], σ) Q)) ∧
(¬ x5 < x4 → (Q (false, .int x0, σ)))) : wp_r d 576 (8, [.int x0, .ref x1, .int x2, .int x3, .int x4, .int x5], [], σ) Q :=
  (wr_iload rfl rfl rfl (wr_iload rfl rfl rfl (wr_icmp_ge rfl rfl (cr_ii h0 (fun c1 h2 => (wr_bipush (a := zi 31) rfl rfl rfl (wr_iload_n rfl rfl rfl (wr_imul rfl rfl (wr_aload_n rfl rfl rfl (wr_iload rfl rfl rfl (wr_baloadB rfl rfl h2.1 h2.2.1 (wr_sipush (a := zi 255) rfl rfl rfl (wr_iand rfl rfl (wr_iadd rfl rfl (wr_istore_n rfl rfl rfl (L2 := [.int (((zi 31) * x0) + ((cm_I σ x1 (cm_ix x5)) &&& (zi 255))), .ref x1, .int x2, .int x3, .int x4, .int x5]) rfl (wr_iinc rfl rfl rfl (L2 := [.int (((zi 31) * x0) + ((cm_I σ x1 (cm_ix x5)) &&& (zi 255))), .ref x1, .int x2, .int x3, .int x4, .int (x5 + zi 1)]) rfl (wr_goto rfl h2.2.2))))))))))))) (fun c3 h4 => (wr_iload_n rfl rfl rfl (wr_ireturn rfl rfl h4)))))))
/-- jdk/internal/util/ArraysSupport.utf16hashCode(I[BII)I : labels [] -/
theorem k577 {d : Nat} {x0 : Int32} {x1 : Nat} {x2 : Int32} {x3 : Int32} {σ : cm_S} {Q : cm_O → Prop} (hd : 1 ≤ d) (h0 : (x2 < (x2 + x3) → (False)) ∧
(¬ x2 < (x2 + x3) → (Q (false, .int x0, σ)))) : wp_c d 577 [.int x0, .ref x1, .int x2, .int x3] σ Q :=
  wc_in (by omega) rfl rfl (L := [.int x0, .ref x1, .int x2, .int x3, .null, .null]) rfl ((wr_iload_n rfl rfl rfl (wr_iload_n rfl rfl rfl (wr_iadd rfl rfl (wr_istore rfl rfl rfl (L2 := [.int x0, .ref x1, .int x2, .int x3, .int (x2 + x3), .null]) rfl (wr_iload_n rfl rfl rfl (wr_istore rfl rfl rfl (L2 := [.int x0, .ref x1, .int x2, .int x3, .int (x2 + x3), .int x2]) rfl (wr_iload rfl rfl rfl (wr_iload rfl rfl rfl (wr_icmp_ge rfl rfl (cr_ii h0 (fun c1 h2 => (wr_bipush (a := zi 31) rfl rfl rfl (wr_iload_n rfl rfl rfl (wr_imul rfl rfl (wr_getstatic rfl (w := .ref 58) rfl rfl (wr_aload_n rfl rfl rfl (wr_iload rfl rfl rfl (False.elim h2)))))))) (fun c3 h4 => (wr_iload_n rfl rfl rfl (wr_ireturn rfl rfl h4))))))))))))))
/-- jdk/internal/util/ArraysSupport.vectorizedHashCode(Ljava/lang/Object;IIII)I : labels [] -/
theorem k578 {d : Nat} {x0 : Nat} {x1 : Int32} {x2 : Int32} {x3 : Int32} {x4 : Int32} {σ : cm_S} {Q : cm_O → Prop} (hd : 2 ≤ d) (h0 : (x4.toInt < 4 ∨ 10 < x4.toInt → (False)) ∧
(¬ (x4.toInt < 4 ∨ 10 < x4.toInt) → (x4.toInt = 4 → ((cm_tg σ x0 = 103 ∧ 322 ≤ x0) ∧
wp_c (d - 1) 576 [.int x3, .ref x0, .int x1, .int x2] σ (qi fun r1 σ1 => Q (false, .int r1, σ1)))) ∧
(¬ x4.toInt = 4 → (x4.toInt = 5 → ((x0 = 0 → ((x0 = 0 ∨ cp_cast 15 (cm_tg σ x0) = some true) ∧
wp_c (d - 1) 570 [.int x3, .ref x0, .int x1, .int x2] σ (qi fun r2 σ2 => Q (false, .int r2, σ2)))) ∧
(¬ x0 = 0 → ∃ t, cp_cast 14 (cm_tg σ x0) = some t ∧ (t = true → ((cm_tg σ x0 = 103 ∧ 322 ≤ x0) ∧
wp_c (d - 1) 577 [.int x3, .ref x0, .int x1, .int x2] σ (qi fun r3 σ3 => Q (false, .int r3, σ3)))) ∧ (¬ t = true → ((x0 = 0 ∨ cp_cast 15 (cm_tg σ x0) = some true) ∧
wp_c (d - 1) 570 [.int x3, .ref x0, .int x1, .int x2] σ (qi fun r4 σ4 => Q (false, .int r4, σ4))))))) ∧
(¬ x4.toInt = 5 → (x4.toInt = 6 → (False)) ∧
(¬ x4.toInt = 6 → (x4.toInt = 7 → (False)) ∧
(¬ x4.toInt = 7 → (x4.toInt = 8 → ((cm_tg σ x0 = 103 ∧ 322 ≤ x0) ∧
wp_c (d - 1) 571 [.int x3, .ref x0, .int x1, .int x2] σ (qi fun r5 σ5 => Q (false, .int r5, σ5)))) ∧
(¬ x4.toInt = 8 → (x4.toInt = 9 → ((x0 = 0 ∨ cp_cast 16 (cm_tg σ x0) = some true) ∧
wp_c (d - 1) 572 [.int x3, .ref x0, .int x1, .int x2] σ (qi fun r6 σ6 => Q (false, .int r6, σ6)))) ∧
(¬ x4.toInt = 9 → (x4.toInt = 10 → ((x0 = 0 ∨ cp_cast 17 (cm_tg σ x0) = some true) ∧
wp_c (d - 1) 573 [.int x3, .ref x0, .int x1, .int x2] σ (qi fun r7 σ7 => Q (false, .int r7, σ7)))) ∧
(¬ x4.toInt = 10 → False))))))))) : wp_c d 578 [.ref x0, .int x1, .int x2, .int x3, .int x4] σ Q :=
  wc_in (by omega) rfl rfl (L := [.ref x0, .int x1, .int x2, .int x3, .int x4]) rfl (have hd : 1 ≤ d - 1 := (by omega); (wr_iload rfl rfl rfl (wr_table rfl (l := [42, 55, 127, 127, 88, 101, 114]) rfl (cr_ii h0 (fun _ h1 => ⟨by decide, (False.elim h1)⟩) (fun _ hz => (cr_ii hz (fun _ h2 => ⟨by decide, (wr_iload_n rfl rfl rfl (wr_aload_n rfl rfl rfl (wr_checkcastB rfl rfl h2.1 (wr_iload_n rfl rfl rfl (wr_iload_n rfl rfl rfl (wr_invsi rfl hd rfl (fun _ => rfl) rfl rfl (wm_i h2.2 fun r1 σ1 h3 => (wr_goto rfl (wr_ireturn rfl rfl h3)))))))))⟩) (fun _ hz0 => (cr_ii hz0 (fun _ h4 => ⟨by decide, (wr_aload_n rfl rfl rfl (wr_instanceof rfl rfl (cr_ii h4 (fun _ h5 => (wr_if_eq rfl rfl (cr_T (by decide) (wr_iload_n rfl rfl rfl (wr_aload_n rfl rfl rfl (wr_checkcast rfl rfl h5.1 (wr_iload_n rfl rfl rfl (wr_iload_n rfl rfl rfl (wr_invsi rfl hd rfl (fun _ => rfl) rfl rfl (wm_i h5.2 fun r2 σ2 h6 => (wr_goto rfl (wr_ireturn rfl rfl h6)))))))))))) (fun _ ⟨t, hc, hh⟩ => ⟨t, hc, cr_ii hh (fun _ h7 => (wr_if_eq rfl rfl (cr_F (by decide) (wr_iload_n rfl rfl rfl (wr_aload_n rfl rfl rfl (wr_checkcastB rfl rfl h7.1 (wr_iload_n rfl rfl rfl (wr_iload_n rfl rfl rfl (wr_invsi rfl hd rfl (fun _ => rfl) rfl rfl (wm_i h7.2 fun r3 σ3 h8 => (wr_goto rfl (wr_ireturn rfl rfl h8)))))))))))) (fun _ h9 => (wr_if_eq rfl rfl (cr_T (by decide) (wr_iload_n rfl rfl rfl (wr_aload_n rfl rfl rfl (wr_checkcast rfl rfl h9.1 (wr_iload_n rfl rfl rfl (wr_iload_n rfl rfl rfl (wr_invsi rfl hd rfl (fun _ => rfl) rfl rfl (wm_i h9.2 fun r4 σ4 h10 => (wr_goto rfl (wr_ireturn rfl rfl h10))))))))))))⟩))))⟩) (fun _ hz1 => (cr_ii hz1 (fun _ h11 => ⟨by decide, (False.elim h11)⟩) (fun _ hz2 => (cr_ii hz2 (fun _ h12 => ⟨by decide, (False.elim h12)⟩) (fun _ hz3 => (cr_ii hz3 (fun _ h13 => ⟨by decide, (wr_iload_n rfl rfl rfl (wr_aload_n rfl rfl rfl (wr_checkcastB rfl rfl h13.1 (wr_iload_n rfl rfl rfl (wr_iload_n rfl rfl rfl (wr_invsi rfl hd rfl (fun _ => rfl) rfl rfl (wm_i h13.2 fun r5 σ5 h14 => (wr_goto rfl (wr_ireturn rfl rfl h14)))))))))⟩) (fun _ hz4 => (cr_ii hz4 (fun _ h15 => ⟨by decide, (wr_iload_n rfl rfl rfl (wr_aload_n rfl rfl rfl (wr_checkcast rfl rfl h15.1 (wr_iload_n rfl rfl rfl (wr_iload_n rfl rfl rfl (wr_invsi rfl hd rfl (fun _ => rfl) rfl rfl (wm_i h15.2 fun r6 σ6 h16 => (wr_goto rfl (wr_ireturn rfl rfl h16)))))))))⟩) (fun _ hz5 => (cr_ii hz5 (fun _ h17 => ⟨by decide, (wr_iload_n rfl rfl rfl (wr_aload_n rfl rfl rfl (wr_checkcast rfl rfl h17.1 (wr_iload_n rfl rfl rfl (wr_iload_n rfl rfl rfl (wr_invsi rfl hd rfl (fun _ => rfl) rfl rfl (wm_i h17.2 fun r7 σ7 h18 => (wr_goto rfl (wr_ireturn rfl rfl h18)))))))))⟩) (fun _ hz6 => hz6)))))))))))))))))))
