/-! WHAT THE CODE OF THE JDK AND THE COMPONENT ASKS (printed by gen/gengn.py) -/
set_option maxRecDepth 100000
theorem vJ0_init_0 {G : wq_G} {l : Launch} {d C S : Nat} {K : wq_H → Prop} (hd1 : 1 ≤ d) {x0 : Nat} {h : wq_H} (V : K h) : wq_T G l d mJ0_init (wq_qv K) 0 [some (.ref x0)] [] h C S := by
  refine wq_aload_n (pc := 0) dJ0_init_0 rfl rfl ?_
  refine wq_objInit (pc := 1) q199 q157 q158 dJ0_init_1 (Nat.le_of_ble_eq_true rfl) hd1 ?_
  refine wq_vret (pc := 4) dJ0_init_4 rfl ⟨rfl, V⟩
theorem vJ1_init_0 {G : wq_G} {l : Launch} {d C S : Nat} {K : wq_H → Prop} {x0 : Nat} {h : wq_H} (V : wq_cw G l d C S mJ0_init [.ref x0] h (fun h1 C2 S3 => wq_pf G h1 x0 [(16, 0)] (.int (0 : Int32)) (fun h4 => K h4))) : wq_T G l d mJ1_init (wq_qv K) 0 [some (.ref x0)] [] h C S := by
  refine wq_aload_n (pc := 0) dJ1_init_0 rfl rfl ?_
  refine clq196 (pc := 1) (As := []) (st := []) rfl dJ1_init_1 rfl (Nat.le_of_ble_eq_true rfl) V (fun C2 S3 => wx_kv (fun h1 V => ?_))
  refine wq_aload_n (pc := 4) dJ1_init_4 rfl rfl ?_
  refine wq_iconst (pc := 5) dJ1_init_5 gsti0 ?_
  refine pfq204 (pc := 6) rfl dJ1_init_6 ⟨rfl, rfl⟩ V (fun h4 V => ?_)
  refine wq_vret (pc := 9) dJ1_init_9 rfl ⟨rfl, V⟩
theorem vJ10_canEncode_0 {G : wq_G} {l : Launch} {d C S : Nat} {K : Int32 → wq_H → Prop} {x0 : Int32} {h : wq_H} (V : ((255 : Int32) < x0 → K (0 : Int32) h) ∧ (¬ (255 : Int32) < x0 → K (1 : Int32) h)) : wq_T G l d mJ10_canEncode (wq_qi K) 0 [some (.int x0)] [] h C S := by
  refine wq_iload_n (pc := 0) dJ10_canEncode_0 rfl rfl ?_
  refine wq_sipush (pc := 1) dJ10_canEncode_1 gsts255 ?_
  refine wq_icmp_gt (pc := 4) (tgt := 11) dJ10_canEncode_4 rfl (fun c => ?_) (fun c => ?_)
  · have V := V.1 c
    refine wq_iconst (pc := 11) dJ10_canEncode_11 gsti0 ?_
    refine wq_zret (pc := 12) dJ10_canEncode_12 rfl gn_b0 ⟨_, rfl, V⟩
  · have V := V.2 c
    refine wq_iconst (pc := 7) dJ10_canEncode_7 gsti1 ?_
    refine wq_goto (pc := 8) (tgt := 12) dJ10_canEncode_8 rfl ?_
    refine wq_zret (pc := 12) dJ10_canEncode_12 rfl gn_b1 ⟨_, rfl, V⟩
theorem vJ10_hashCode_0 {G : wq_G} {l : Launch} {d C S : Nat} {K : Int32 → wq_H → Prop} {x0 : Nat} {h : wq_H} (V : wq_ag G h x0 (fun y1 => (y1.toInt = 0 → K (0 : Int32) h) ∧ (y1.toInt = 1 → wq_ab G h x0 (0 : Int32) (fun y2 => K (y2 &&& (255 : Int32)) h)) ∧ (¬ y1.toInt = 0 ∧ ¬ y1.toInt = 1 → wq_ag G h x0 (fun y3 => wq_ci G l d C S mJ7_vectorizedHashCode [.ref x0, .int (0 : Int32), .int y3, .int (0 : Int32), .int (4 : Int32)] h (fun y7 h4 C5 S6 => K y7 h4))))) : wq_T G l d mJ10_hashCode (wq_qi K) 0 [some (.ref x0)] [] h C S := by
  refine wq_aload_n (pc := 0) dJ10_hashCode_0 rfl rfl ?_
  refine wx_al (pc := 1) dJ10_hashCode_1 V (fun y1 V => ?_)
  by_cases c0 : y1.toInt = 0
  · refine wq_lookup (pc := 2) (off := 26) (tgt := 28) dJ10_hashCode_2 (by decide) (by rw [c0]; decide) rfl ?_
    have V := V.1 c0
    refine wq_iconst (pc := 28) dJ10_hashCode_28 gsti0 ?_
    refine wq_goto (pc := 29) (tgt := 51) dJ10_hashCode_29 rfl ?_
    refine wq_iret (pc := 51) dJ10_hashCode_51 rfl ⟨_, rfl, V⟩
  by_cases c1 : y1.toInt = 1
  · refine wq_lookup (pc := 2) (off := 30) (tgt := 32) dJ10_hashCode_2 (by decide) (by rw [c1]; decide) rfl ?_
    have V := V.2.1 c1
    refine wq_aload_n (pc := 32) dJ10_hashCode_32 rfl rfl ?_
    refine wq_iconst (pc := 33) dJ10_hashCode_33 gsti0 ?_
    refine wx_ab (pc := 34) dJ10_hashCode_34 V (fun y2 V => ?_)
    refine wq_sipush (pc := 35) dJ10_hashCode_35 gsts255 ?_
    refine wq_iand (pc := 38) dJ10_hashCode_38 ?_
    refine wq_goto (pc := 39) (tgt := 51) dJ10_hashCode_39 rfl ?_
    refine wq_iret (pc := 51) dJ10_hashCode_51 rfl ⟨_, rfl, V⟩
  refine wq_lookup (pc := 2) (off := 40) (tgt := 42) dJ10_hashCode_2 (by decide) (by simp [Op.lookupswitch.offset, Ne.symm c0, Ne.symm c1]) rfl ?_
  have V := V.2.2 ⟨c0, c1⟩
  refine wq_aload_n (pc := 42) dJ10_hashCode_42 rfl rfl ?_
  refine wq_iconst (pc := 43) dJ10_hashCode_43 gsti0 ?_
  refine wq_aload_n (pc := 44) dJ10_hashCode_44 rfl rfl ?_
  refine wx_al (pc := 45) dJ10_hashCode_45 V (fun y3 V => ?_)
  refine wq_iconst (pc := 46) dJ10_hashCode_46 gsti0 ?_
  refine wq_iconst (pc := 47) dJ10_hashCode_47 gsti4 ?_
  refine clq611 (pc := 48) (As := [.ref x0, .int (0 : Int32), .int y3, .int (0 : Int32), .int (4 : Int32)]) (st := []) rfl dJ10_hashCode_48 rfl (Nat.le_of_ble_eq_true rfl) V (fun C5 S6 => wx_ki (fun y7 h4 V => ?_))
  refine wq_iret (pc := 51) dJ10_hashCode_51 rfl ⟨_, rfl, V⟩
theorem vJ10_equals_0 {G : wq_G} {l : Launch} {d C S : Nat} {K : Int32 → wq_H → Prop} {x0 : Nat} {x1 : Nat} {h : wq_H} (V : wq_ag G h x0 (fun y1 => wq_ag G h x1 (fun y2 => (¬ y1 = y2 → K (0 : Int32) h) ∧ (y1 = y2 → wq_T G l d mJ10_equals (wq_qi K) 9 [some (.ref x0), some (.ref x1), some (.int (0 : Int32))] [] h C S)))) : wq_T G l d mJ10_equals (wq_qi K) 0 [some (.ref x0), some (.ref x1), none] [] h C S := by
  refine wq_aload_n (pc := 0) dJ10_equals_0 rfl rfl ?_
  refine wx_al (pc := 1) dJ10_equals_1 V (fun y1 V => ?_)
  refine wq_aload_n (pc := 2) dJ10_equals_2 rfl rfl ?_
  refine wx_al (pc := 3) dJ10_equals_3 V (fun y2 V => ?_)
  refine wq_icmp_ne (pc := 4) (tgt := 34) dJ10_equals_4 rfl (fun c => ?_) (fun c => ?_)
  · have V := V.1 c
    refine wq_iconst (pc := 34) dJ10_equals_34 gsti0 ?_
    refine wq_zret (pc := 35) dJ10_equals_35 rfl gn_b0 ⟨_, rfl, V⟩
  · have V := V.2 c
    refine wq_iconst (pc := 7) dJ10_equals_7 gsti0 ?_
    refine wq_istore_n (L' := [some (.ref x0), some (.ref x1), some (.int (0 : Int32))]) (pc := 8) dJ10_equals_8 rfl (Nat.le_of_ble_eq_true rfl) rfl ?_
    exact wq_T.less V ⟨rfl, ⟨rfl, ⟨rfl, trivial⟩⟩⟩
theorem vJ10_equals_9 {G : wq_G} {l : Launch} {d C S : Nat} {K : Int32 → wq_H → Prop} {x0 : Nat} {x1 : Nat} {x2 : Int32} {h : wq_H} (V : wq_ag G h x0 (fun y1 => (y1 ≤ x2 → K (1 : Int32) h) ∧ (¬ y1 ≤ x2 → wq_ab G h x0 x2 (fun y2 => wq_ab G h x1 x2 (fun y3 => (y2 = y3 → wq_T G l d mJ10_equals (wq_qi K) 9 [some (.ref x0), some (.ref x1), some (.int (x2 + (1 : Int32)))] [] h C S) ∧ (¬ y2 = y3 → K (0 : Int32) h)))))) : wq_T G l d mJ10_equals (wq_qi K) 9 [some (.ref x0), some (.ref x1), some (.int x2)] [] h C S := by
  refine wq_iload_n (pc := 9) dJ10_equals_9 rfl rfl ?_
  refine wq_aload_n (pc := 10) dJ10_equals_10 rfl rfl ?_
  refine wx_al (pc := 11) dJ10_equals_11 V (fun y1 V => ?_)
  refine wq_icmp_ge (pc := 12) (tgt := 32) dJ10_equals_12 rfl (fun c => ?_) (fun c => ?_)
  · have V := V.1 c
    refine wq_iconst (pc := 32) dJ10_equals_32 gsti1 ?_
    refine wq_zret (pc := 33) dJ10_equals_33 rfl gn_b1 ⟨_, rfl, V⟩
  · have V := V.2 c
    refine wq_aload_n (pc := 15) dJ10_equals_15 rfl rfl ?_
    refine wq_iload_n (pc := 16) dJ10_equals_16 rfl rfl ?_
    refine wx_ab (pc := 17) dJ10_equals_17 V (fun y2 V => ?_)
    refine wq_aload_n (pc := 18) dJ10_equals_18 rfl rfl ?_
    refine wq_iload_n (pc := 19) dJ10_equals_19 rfl rfl ?_
    refine wx_ab (pc := 20) dJ10_equals_20 V (fun y3 V => ?_)
    refine wq_icmp_eq (pc := 21) (tgt := 26) dJ10_equals_21 rfl (fun c => ?_) (fun c => ?_)
    · have V := V.1 c
      refine wq_iinc (L' := [some (.ref x0), some (.ref x1), some (.int (x2 + (1 : Int32)))]) (pc := 26) dJ10_equals_26 rfl (by rw [gsti1]) (Nat.le_of_ble_eq_true rfl) rfl ?_
      refine wq_goto (pc := 29) (tgt := 9) dJ10_equals_29 rfl ?_
      exact wq_T.less V ⟨rfl, ⟨rfl, ⟨rfl, trivial⟩⟩⟩
    · have V := V.2 c
      refine wq_iconst (pc := 24) dJ10_equals_24 gsti0 ?_
      refine wq_zret (pc := 25) dJ10_equals_25 rfl gn_b0 ⟨_, rfl, V⟩
theorem vJ10_charAt_0 {G : wq_G} {l : Launch} {d C S : Nat} {K : Int32 → wq_H → Prop} {x0 : Nat} {x1 : Int32} {h : wq_H} (V : wq_ag G h x0 (fun y1 => wq_cw G l d C S mJ5_checkIndex [.int x1, .int y1] h (fun h2 C3 S4 => wq_ab G h2 x0 x1 (fun y5 => narrow .char (.int (((y5 &&& (255 : Int32)).toUInt32 % 65536).toInt32)) = .int (((y5 &&& (255 : Int32)).toUInt32 % 65536).toInt32) ∧ K (((y5 &&& (255 : Int32)).toUInt32 % 65536).toInt32) h2)))) : wq_T G l d mJ10_charAt (wq_qi K) 0 [some (.ref x0), some (.int x1)] [] h C S := by
  refine wq_iload_n (pc := 0) dJ10_charAt_0 rfl rfl ?_
  refine wq_aload_n (pc := 1) dJ10_charAt_1 rfl rfl ?_
  refine wx_al (pc := 2) dJ10_charAt_2 V (fun y1 V => ?_)
  refine clq1889 (pc := 3) (As := [.int x1, .int y1]) (st := []) rfl dJ10_charAt_3 rfl (Nat.le_of_ble_eq_true rfl) V (fun C3 S4 => wx_kv (fun h2 V => ?_))
  refine wq_aload_n (pc := 6) dJ10_charAt_6 rfl rfl ?_
  refine wq_iload_n (pc := 7) dJ10_charAt_7 rfl rfl ?_
  refine wx_ab (pc := 8) dJ10_charAt_8 V (fun y5 V => ?_)
  refine wq_sipush (pc := 9) dJ10_charAt_9 gsts255 ?_
  refine wq_iand (pc := 12) dJ10_charAt_12 ?_
  refine wq_i2c (pc := 13) dJ10_charAt_13 ?_
  refine wq_zret (pc := 14) dJ10_charAt_14 rfl V.1 ⟨_, rfl, V.2⟩
theorem vJ11_checkIndex_0 {G : wq_G} {l : Launch} {d C S : Nat} {K : Int32 → wq_H → Prop} {x0 : Int32} {x1 : Int32} {x2 : Option Nat} {h : wq_H} (V : (x0 < 0 → False) ∧ (¬ x0 < 0 → (x0 < x1 → K x0 h) ∧ (¬ x0 < x1 → False))) : wq_T G l d mJ11_checkIndex (wq_qi K) 0 [some (.int x0), some (.int x1), some (va_rf x2)] [] h C S := by
  refine wq_iload_n (pc := 0) dJ11_checkIndex_0 rfl rfl ?_
  refine wq_if_lt (pc := 1) (tgt := 9) dJ11_checkIndex_1 rfl (fun c => ?_) (fun c => ?_)
  · have V := V.1 c
    refine wq_aload_nQ (pc := 9) dJ11_checkIndex_9 rfl rfl ?_
    refine wq_iload_n (pc := 10) dJ11_checkIndex_10 rfl rfl ?_
    refine wq_iload_n (pc := 11) dJ11_checkIndex_11 rfl rfl ?_
    exact V.elim
  · have V := V.2 c
    refine wq_iload_n (pc := 4) dJ11_checkIndex_4 rfl rfl ?_
    refine wq_iload_n (pc := 5) dJ11_checkIndex_5 rfl rfl ?_
    refine wq_icmp_lt (pc := 6) (tgt := 16) dJ11_checkIndex_6 rfl (fun c => ?_) (fun c => ?_)
    · have V := V.1 c
      refine wq_iload_n (pc := 16) dJ11_checkIndex_16 rfl rfl ?_
      refine wq_iret (pc := 17) dJ11_checkIndex_17 rfl ⟨_, rfl, V⟩
    · have V := V.2 c
      refine wq_aload_nQ (pc := 9) dJ11_checkIndex_9 rfl rfl ?_
      refine wq_iload_n (pc := 10) dJ11_checkIndex_10 rfl rfl ?_
      refine wq_iload_n (pc := 11) dJ11_checkIndex_11 rfl rfl ?_
      exact V.elim
theorem vJ12_checkIndex_0 {G : wq_G} {l : Launch} {d C S : Nat} {K : Int32 → wq_H → Prop} {x0 : Int32} {x1 : Int32} {h : wq_H} (V : wq_ci G l d C S mJ11_checkIndex [.int x0, .int x1, va_rf none] h (fun y4 h1 C2 S3 => K y4 h1)) : wq_T G l d mJ12_checkIndex (wq_qi K) 0 [some (.int x0), some (.int x1)] [] h C S := by
  refine wq_iload_n (pc := 0) dJ12_checkIndex_0 rfl rfl ?_
  refine wq_iload_n (pc := 1) dJ12_checkIndex_1 rfl rfl ?_
  refine wq_aconst (pc := 2) dJ12_checkIndex_2 ?_
  refine clq733 (pc := 3) (As := [.int x0, .int x1, va_rf none]) (st := []) rfl dJ12_checkIndex_3 rfl (Nat.le_of_ble_eq_true rfl) V (fun C2 S3 => wx_ki (fun y4 h1 V => ?_))
  refine wq_iret (pc := 6) dJ12_checkIndex_6 rfl ⟨_, rfl, V⟩
theorem vJ13_init_0 {G : wq_G} {l : Launch} {d C S : Nat} {K : wq_H → Prop} (hd1 : 1 ≤ d) {x0 : Nat} {h : wq_H} (V : K h) : wq_T G l d mJ13_init (wq_qv K) 0 [some (.ref x0)] [] h C S := by
  refine wq_aload_n (pc := 0) dJ13_init_0 rfl rfl ?_
  refine wq_objInit (pc := 1) q1373 q157 q158 dJ13_init_1 (Nat.le_of_ble_eq_true rfl) hd1 ?_
  refine wq_vret (pc := 4) dJ13_init_4 rfl ⟨rfl, V⟩
theorem vJ14_valueOf_0 {G : wq_G} {l : Launch} {d C S : Nat} {K : Option Nat → wq_H → Prop} {x0 : Int32} {h : wq_H} (V : (x0 < (-128 : Int32) → wq_no G h 19 [.int 0] 1 C S (fun a1 h2 => wq_cw G l d (C - 1) (S - 1) mJ14_init [.ref a1, .int x0] h2 (fun h3 C4 S5 => K (some a1) h3))) ∧ (¬ x0 < (-128 : Int32) → ((127 : Int32) < x0 → wq_no G h 19 [.int 0] 1 C S (fun a6 h7 => wq_cw G l d (C - 1) (S - 1) mJ14_init [.ref a6, .int x0] h7 (fun h8 C9 S10 => K (some a6) h8))) ∧ (¬ (127 : Int32) < x0 → wq_arK G h (G.2.2.2.2 1) (x0 + (128 : Int32)) (fun r11 => K r11 h)))) : wq_T G l d mJ14_valueOf (wq_qq K) 0 [some (.int x0)] [] h C S := by
  refine wq_iload_n (pc := 0) dJ14_valueOf_0 rfl rfl ?_
  refine wq_bipush (pc := 1) dJ14_valueOf_1 gstbm128 ?_
  refine wq_icmp_lt (pc := 3) (tgt := 23) dJ14_valueOf_3 rfl (fun c => ?_) (fun c => ?_)
  · have V := V.1 c
    refine nwq1365 (pc := 23) rfl dJ14_valueOf_23 V (fun a1 h2 V => ?_)
    refine wq_dup (pc := 26) dJ14_valueOf_26 rfl ?_
    refine wq_iload_n (pc := 27) dJ14_valueOf_27 rfl rfl ?_
    refine clq1367 (pc := 28) (As := [.int x0]) (st := [.ref a1]) rfl dJ14_valueOf_28 rfl (Nat.le_of_ble_eq_true rfl) V (fun C4 S5 => wx_kv (fun h3 V => ?_))
    refine wq_aret (r := (some a1)) (pc := 31) dJ14_valueOf_31 rfl rfl ⟨_, rfl, V⟩
  · have V := V.2 c
    refine wq_iload_n (pc := 6) dJ14_valueOf_6 rfl rfl ?_
    refine wq_gets (pc := 7) (Cn := "java/lang/Integer$IntegerCache") (n := "high") (ds := "I") (v := .int (127 : Int32)) (by simp) q1361 dJ14_valueOf_7 ?_
    refine wq_icmp_gt (pc := 10) (tgt := 23) dJ14_valueOf_10 rfl (fun c => ?_) (fun c => ?_)
    · have V := V.1 c
      refine nwq1365 (pc := 23) rfl dJ14_valueOf_23 V (fun a6 h7 V => ?_)
      refine wq_dup (pc := 26) dJ14_valueOf_26 rfl ?_
      refine wq_iload_n (pc := 27) dJ14_valueOf_27 rfl rfl ?_
      refine clq1367 (pc := 28) (As := [.int x0]) (st := [.ref a6]) rfl dJ14_valueOf_28 rfl (Nat.le_of_ble_eq_true rfl) V (fun C9 S10 => wx_kv (fun h8 V => ?_))
      refine wq_aret (r := (some a6)) (pc := 31) dJ14_valueOf_31 rfl rfl ⟨_, rfl, V⟩
    · have V := V.2 c
      refine wq_gets (pc := 13) (Cn := "java/lang/Integer$IntegerCache") (n := "cache") (ds := "[Ljava/lang/Integer;") (v := .ref (G.2.2.2.2 1)) (by simp) q1363 dJ14_valueOf_13 ?_
      refine wq_iload_n (pc := 16) dJ14_valueOf_16 rfl rfl ?_
      refine wq_sipush (pc := 17) dJ14_valueOf_17 gsts128 ?_
      refine wq_iadd (pc := 20) dJ14_valueOf_20 ?_
      refine wx_arK (pc := 21) dJ14_valueOf_21 V (fun r11 V => ?_)
      refine wq_aret (r := r11) (pc := 22) dJ14_valueOf_22 rfl rfl ⟨_, rfl, V⟩
theorem vJ14_init_0 {G : wq_G} {l : Launch} {d C S : Nat} {K : wq_H → Prop} {x0 : Nat} {x1 : Int32} {h : wq_H} (V : wq_cw G l d C S mJ13_init [.ref x0] h (fun h1 C2 S3 => wq_pf G h1 x0 [(19, 0)] (.int x1) (fun h4 => K h4))) : wq_T G l d mJ14_init (wq_qv K) 0 [some (.ref x0), some (.int x1)] [] h C S := by
  refine wq_aload_n (pc := 0) dJ14_init_0 rfl rfl ?_
  refine clq1370 (pc := 1) (As := []) (st := []) rfl dJ14_init_1 rfl (Nat.le_of_ble_eq_true rfl) V (fun C2 S3 => wx_kv (fun h1 V => ?_))
  refine wq_aload_n (pc := 4) dJ14_init_4 rfl rfl ?_
  refine wq_iload_n (pc := 5) dJ14_init_5 rfl rfl ?_
  refine pfq1374 (pc := 6) rfl rfl dJ14_init_6 ⟨rfl, rfl⟩ V (fun h4 V => ?_)
  refine wq_vret (pc := 9) dJ14_init_9 rfl ⟨rfl, V⟩
theorem vJ14_intValue_0 {G : wq_G} {l : Launch} {d C S : Nat} {K : Int32 → wq_H → Prop} {x0 : Nat} {h : wq_H} (V : wq_gI h x0 [(19, 0)] (fun y1 => K y1 h)) : wq_T G l d mJ14_intValue (wq_qi K) 0 [some (.ref x0)] [] h C S := by
  refine wq_aload_n (pc := 0) dJ14_intValue_0 rfl rfl ?_
  refine gfq1374 (pc := 1) rfl dJ14_intValue_1 V (fun y1 V => ?_)
  refine wq_iret (pc := 4) dJ14_intValue_4 rfl ⟨_, rfl, V⟩
theorem vJ2_init_0 {G : wq_G} {l : Launch} {d C S : Nat} {K : wq_H → Prop} {x0 : Nat} {h : wq_H} (V : wq_cw G l d C S mJ1_init [.ref x0] h (fun h1 C2 S3 => wq_pf G h1 x0 [(16, 1)] (.ref (G.2.2.2.2 0)) (fun h4 => K h4))) : wq_T G l d mJ2_init (wq_qv K) 0 [some (.ref x0)] [] h C S := by
  refine wq_aload_n (pc := 0) dJ2_init_0 rfl rfl ?_
  refine clq193 (pc := 1) (As := []) (st := []) rfl dJ2_init_1 rfl (Nat.le_of_ble_eq_true rfl) V (fun C2 S3 => wx_kv (fun h1 V => ?_))
  refine wq_aload_n (pc := 4) dJ2_init_4 rfl rfl ?_
  refine wq_gets (pc := 5) (Cn := "java/util/ArrayList") (n := "DEFAULTCAPACITY_EMPTY_ELEMENTDATA") (ds := "[Ljava/lang/Object;") (v := .ref (G.2.2.2.2 0)) (by simp) q200 dJ2_init_5 ?_
  refine pfq202 (pc := 8) rfl dJ2_init_8 (wq_nfr rfl (some (G.2.2.2.2 0))) V (fun h4 V => ?_)
  refine wq_vret (pc := 11) dJ2_init_11 rfl ⟨rfl, V⟩
theorem vJ2_size_0 {G : wq_G} {l : Launch} {d C S : Nat} {K : Int32 → wq_H → Prop} {x0 : Nat} {h : wq_H} (V : wq_gI h x0 [(16, 2)] (fun y1 => K y1 h)) : wq_T G l d mJ2_size (wq_qi K) 0 [some (.ref x0)] [] h C S := by
  refine wq_aload_n (pc := 0) dJ2_size_0 rfl rfl ?_
  refine gfq203 (pc := 1) rfl dJ2_size_1 V (fun y1 V => ?_)
  refine wq_iret (pc := 4) dJ2_size_4 rfl ⟨_, rfl, V⟩
theorem vJ2_get_0 {G : wq_G} {l : Launch} {d C S : Nat} {K : Option Nat → wq_H → Prop} {x0 : Nat} {x1 : Int32} {h : wq_H} (V : wq_gI h x0 [(16, 2)] (fun y1 => wq_ci G l d C S mJ12_checkIndex [.int x1, .int y1] h (fun y5 h2 C3 S4 => ∃ fs10 : List Value, h2 x0 = some (.inr (16, fs10)) ∧ (wq_cq G l d C3 S4 mJ2_elementData [.ref x0, .int x1] h2 (fun r9 h6 C7 S8 => K r9 h6))))) : wq_T G l d mJ2_get (wq_qq K) 0 [some (.ref x0), some (.int x1)] [] h C S := by
  refine wq_iload_n (pc := 0) dJ2_get_0 rfl rfl ?_
  refine wq_aload_n (pc := 1) dJ2_get_1 rfl rfl ?_
  refine gfq203 (pc := 2) rfl dJ2_get_2 V (fun y1 V => ?_)
  refine clq730 (pc := 5) (As := [.int x1, .int y1]) (st := []) rfl dJ2_get_5 rfl (Nat.le_of_ble_eq_true rfl) V (fun C3 S4 => wx_ki (fun y5 h2 V => ?_))
  refine wq_pop (pc := 8) dJ2_get_8 rfl ?_
  refine wq_aload_n (pc := 9) dJ2_get_9 rfl rfl ?_
  refine wq_iload_n (pc := 10) dJ2_get_10 rfl rfl ?_
  obtain ⟨fs10, w11, V⟩ := V
  refine clq734 (pc := 11) (As := [.int x1]) (st := []) rfl dJ2_get_11 rfl (Nat.le_of_ble_eq_true rfl) w11 V (fun C7 S8 => wx_kq (fun r9 h6 V => ?_))
  refine wq_aret (r := r9) (pc := 14) dJ2_get_14 rfl rfl ⟨_, rfl, V⟩
theorem vJ2_elementData_0 {G : wq_G} {l : Launch} {d C S : Nat} {K : Option Nat → wq_H → Prop} {x0 : Nat} {x1 : Int32} {h : wq_H} (V : wq_gR h x0 [(16, 1)] (fun a1 => wq_ar G h a1 x1 (fun r2 => K r2 h))) : wq_T G l d mJ2_elementData (wq_qq K) 0 [some (.ref x0), some (.int x1)] [] h C S := by
  refine wq_aload_n (pc := 0) dJ2_elementData_0 rfl rfl ?_
  refine gfq202 (pc := 1) rfl dJ2_elementData_1 V (fun a1 V => ?_)
  refine wq_iload_n (pc := 4) dJ2_elementData_4 rfl rfl ?_
  refine wx_ar (pc := 5) dJ2_elementData_5 V (fun r2 V => ?_)
  refine wq_aret (r := r2) (pc := 6) dJ2_elementData_6 rfl rfl ⟨_, rfl, V⟩
theorem vJ2_add_0 {G : wq_G} {l : Launch} {d C S : Nat} {K : Int32 → wq_H → Prop} {x0 : Nat} {x1 : Nat} {h : wq_H} (V : wq_gI h x0 [(16, 0)] (fun y1 => wq_pf G h x0 [(16, 0)] (.int (y1 + (1 : Int32))) (fun h2 => wq_gR h2 x0 [(16, 1)] (fun a3 => wq_gI h2 x0 [(16, 2)] (fun y4 => ∃ fs8 : List Value, h2 x0 = some (.inr (16, fs8)) ∧ (wq_cw G l d C S mJ2_add_2 [.ref x0, .ref x1, .ref a3, .int y4] h2 (fun h5 C6 S7 => K (1 : Int32) h5))))))) : wq_T G l d mJ2_add (wq_qi K) 0 [some (.ref x0), some (.ref x1)] [] h C S := by
  refine wq_aload_n (pc := 0) dJ2_add_0 rfl rfl ?_
  refine wq_dup (pc := 1) dJ2_add_1 rfl ?_
  refine gfq205 (pc := 2) rfl dJ2_add_2 V (fun y1 V => ?_)
  refine wq_iconst (pc := 5) dJ2_add_5 gsti1 ?_
  refine wq_iadd (pc := 6) dJ2_add_6 ?_
  refine pfq205 (pc := 7) rfl dJ2_add_7 ⟨rfl, rfl⟩ V (fun h2 V => ?_)
  refine wq_aload_n (pc := 10) dJ2_add_10 rfl rfl ?_
  refine wq_aload_n (pc := 11) dJ2_add_11 rfl rfl ?_
  refine wq_aload_n (pc := 12) dJ2_add_12 rfl rfl ?_
  refine gfq202 (pc := 13) rfl dJ2_add_13 V (fun a3 V => ?_)
  refine wq_aload_n (pc := 16) dJ2_add_16 rfl rfl ?_
  refine gfq203 (pc := 17) rfl dJ2_add_17 V (fun y4 V => ?_)
  obtain ⟨fs8, w9, V⟩ := V
  refine clq743 (pc := 20) (As := [.ref x1, .ref a3, .int y4]) (st := []) rfl dJ2_add_20 rfl (Nat.le_of_ble_eq_true rfl) w9 V (fun C6 S7 => wx_kv (fun h5 V => ?_))
  refine wq_iconst (pc := 23) dJ2_add_23 gsti1 ?_
  refine wq_zret (pc := 24) dJ2_add_24 rfl gn_b1 ⟨_, rfl, V⟩
theorem vJ2_add_2_0 {G : wq_G} {l : Launch} {d C S : Nat} {K : wq_H → Prop} {x0 : Nat} {x1 : Nat} {x2 : Nat} {x3 : Int32} {h : wq_H} (V : wq_ag G h x2 (fun y1 => (¬ x3 = y1 → wq_sr G h x2 x3 (some x1) (fun h2 => wq_pf G h2 x0 [(16, 2)] (.int (x3 + (1 : Int32))) (fun h3 => K h3))) ∧ (x3 = y1 → ∃ fs8 : List Value, h x0 = some (.inr (16, fs8)) ∧ (wq_cq G l d C S mJ2_grow [.ref x0] h (fun r7 h4 C5 S6 => ∃ a10, r7 = some a10 ∧ (wq_sr G h4 a10 x3 (some x1) (fun h12 => wq_pf G h12 x0 [(16, 2)] (.int (x3 + (1 : Int32))) (fun h13 => K h13)))))))) : wq_T G l d mJ2_add_2 (wq_qv K) 0 [some (.ref x0), some (.ref x1), some (.ref x2), some (.int x3)] [] h C S := by
  refine wq_iload_n (pc := 0) dJ2_add_2_0 rfl rfl ?_
  refine wq_aload_n (pc := 1) dJ2_add_2_1 rfl rfl ?_
  refine wx_al (pc := 2) dJ2_add_2_2 V (fun y1 V => ?_)
  refine wq_icmp_ne (pc := 3) (tgt := 11) dJ2_add_2_3 rfl (fun c => ?_) (fun c => ?_)
  · have V := V.1 c
    refine wq_aload_n (pc := 11) dJ2_add_2_11 rfl rfl ?_
    refine wq_iload_n (pc := 12) dJ2_add_2_12 rfl rfl ?_
    refine wq_aload_n (pc := 13) dJ2_add_2_13 rfl rfl ?_
    refine wx_sr (r := (some x1)) (pc := 14) dJ2_add_2_14 V (fun h2 V => ?_)
    refine wq_aload_n (pc := 15) dJ2_add_2_15 rfl rfl ?_
    refine wq_iload_n (pc := 16) dJ2_add_2_16 rfl rfl ?_
    refine wq_iconst (pc := 17) dJ2_add_2_17 gsti1 ?_
    refine wq_iadd (pc := 18) dJ2_add_2_18 ?_
    refine pfq203 (pc := 19) rfl dJ2_add_2_19 ⟨rfl, rfl⟩ V (fun h3 V => ?_)
    refine wq_vret (pc := 22) dJ2_add_2_22 rfl ⟨rfl, V⟩
  · have V := V.2 c
    refine wq_aload_n (pc := 6) dJ2_add_2_6 rfl rfl ?_
    obtain ⟨fs8, w9, V⟩ := V
    refine clq747 (pc := 7) (As := []) (st := []) rfl dJ2_add_2_7 rfl (Nat.le_of_ble_eq_true rfl) w9 V (fun C5 S6 => wx_kq (fun r7 h4 V => ?_))
    refine wq_astore_nQ (L' := [some (.ref x0), some (.ref x1), some (va_rf r7), some (.int x3)]) (pc := 10) dJ2_add_2_10 rfl (Nat.le_of_ble_eq_true rfl) rfl ?_
    refine wq_aload_nQ (pc := 11) dJ2_add_2_11 rfl rfl ?_
    refine wq_iload_n (pc := 12) dJ2_add_2_12 rfl rfl ?_
    refine wq_aload_n (pc := 13) dJ2_add_2_13 rfl rfl ?_
    obtain ⟨a10, w11, V⟩ := V
    rw [w11]
    refine wx_sr (r := (some x1)) (pc := 14) dJ2_add_2_14 V (fun h12 V => ?_)
    refine wq_aload_n (pc := 15) dJ2_add_2_15 rfl rfl ?_
    refine wq_iload_n (pc := 16) dJ2_add_2_16 rfl rfl ?_
    refine wq_iconst (pc := 17) dJ2_add_2_17 gsti1 ?_
    refine wq_iadd (pc := 18) dJ2_add_2_18 ?_
    refine pfq203 (pc := 19) rfl dJ2_add_2_19 ⟨rfl, rfl⟩ V (fun h13 V => ?_)
    refine wq_vret (pc := 22) dJ2_add_2_22 rfl ⟨rfl, V⟩
theorem vJ2_grow_0 {G : wq_G} {l : Launch} {d C S : Nat} {K : Option Nat → wq_H → Prop} {x0 : Nat} {h : wq_H} (V : wq_gI h x0 [(16, 2)] (fun y1 => ∃ fs6 : List Value, h x0 = some (.inr (16, fs6)) ∧ (wq_cq G l d C S mJ2_grow_2 [.ref x0, .int (y1 + (1 : Int32))] h (fun r5 h2 C3 S4 => K r5 h2)))) : wq_T G l d mJ2_grow (wq_qq K) 0 [some (.ref x0)] [] h C S := by
  refine wq_aload_n (pc := 0) dJ2_grow_0 rfl rfl ?_
  refine wq_aload_n (pc := 1) dJ2_grow_1 rfl rfl ?_
  refine gfq203 (pc := 2) rfl dJ2_grow_2 V (fun y1 V => ?_)
  refine wq_iconst (pc := 5) dJ2_grow_5 gsti1 ?_
  refine wq_iadd (pc := 6) dJ2_grow_6 ?_
  obtain ⟨fs6, w7, V⟩ := V
  refine clq751 (pc := 7) (As := [.int (y1 + (1 : Int32))]) (st := []) rfl dJ2_grow_7 rfl (Nat.le_of_ble_eq_true rfl) w7 V (fun C3 S4 => wx_kq (fun r5 h2 V => ?_))
  refine wq_aret (r := r5) (pc := 10) dJ2_grow_10 rfl rfl ⟨_, rfl, V⟩
theorem vJ2_grow_2_0 {G : wq_G} {l : Launch} {d C S : Nat} {K : Option Nat → wq_H → Prop} {x0 : Nat} {x1 : Int32} {h : wq_H} (V : wq_gR h x0 [(16, 1)] (fun a1 => wq_ag G h a1 (fun y2 => (0 < y2 → wq_ci G l d C S mJ7_newLength [.int y2, .int (x1 - y2), .int (y2 >>> ((1 : Int32) &&& 31))] h (fun y6 h3 C4 S5 => wq_gR h3 x0 [(16, 1)] (fun a7 => wq_cq G l d C4 S5 mJ9_copyOf_2 [.ref a7, .int y6] h3 (fun r11 h8 C9 S10 => wq_pf G h8 x0 [(16, 1)] (va_rf r11) (fun h12 => K r11 h12))))) ∧ (¬ 0 < y2 → wq_gR h x0 [(16, 1)] (fun a13 => ((some a13) = (some (G.2.2.2.2 0)) → wq_ci G l d C S mJ8_max [.int (10 : Int32), .int x1] h (fun y17 h14 C15 S16 => wq_na G h14 (.inl (G.2.2.1 3, y17.toNatClampNeg, wq_ra (fun _ => none))) y17 y17.toNatClampNeg C15 S16 (fun a18 h19 => wq_pf G h19 x0 [(16, 1)] (.ref a18) (fun h20 => K (some a18) h20)))) ∧ (¬ (some a13) = (some (G.2.2.2.2 0)) → wq_ci G l d C S mJ7_newLength [.int y2, .int (x1 - y2), .int (y2 >>> ((1 : Int32) &&& 31))] h (fun y24 h21 C22 S23 => wq_gR h21 x0 [(16, 1)] (fun a25 => wq_cq G l d C22 S23 mJ9_copyOf_2 [.ref a25, .int y24] h21 (fun r29 h26 C27 S28 => wq_pf G h26 x0 [(16, 1)] (va_rf r29) (fun h30 => K r29 h30)))))))))) : wq_T G l d mJ2_grow_2 (wq_qq K) 0 [some (.ref x0), some (.int x1), none, none] [] h C S := by
  refine wq_aload_n (pc := 0) dJ2_grow_2_0 rfl rfl ?_
  refine gfq202 (pc := 1) rfl dJ2_grow_2_1 V (fun a1 V => ?_)
  refine wx_al (pc := 4) dJ2_grow_2_4 V (fun y2 V => ?_)
  refine wq_istore_n (L' := [some (.ref x0), some (.int x1), some (.int y2), none]) (pc := 5) dJ2_grow_2_5 rfl (Nat.le_of_ble_eq_true rfl) rfl ?_
  refine wq_iload_n (pc := 6) dJ2_grow_2_6 rfl rfl ?_
  refine wq_if_gt (pc := 7) (tgt := 20) dJ2_grow_2_7 rfl (fun c => ?_) (fun c => ?_)
  · have V := V.1 c
    refine wq_iload_n (pc := 20) dJ2_grow_2_20 rfl rfl ?_
    refine wq_iload_n (pc := 21) dJ2_grow_2_21 rfl rfl ?_
    refine wq_iload_n (pc := 22) dJ2_grow_2_22 rfl rfl ?_
    refine wq_isub (pc := 23) dJ2_grow_2_23 ?_
    refine wq_iload_n (pc := 24) dJ2_grow_2_24 rfl rfl ?_
    refine wq_iconst (pc := 25) dJ2_grow_2_25 gsti1 ?_
    refine wq_ishr (pc := 26) dJ2_grow_2_26 ?_
    refine clq755 (pc := 27) (As := [.int y2, .int (x1 - y2), .int (y2 >>> ((1 : Int32) &&& 31))]) (st := []) rfl dJ2_grow_2_27 rfl (Nat.le_of_ble_eq_true rfl) V (fun C4 S5 => wx_ki (fun y6 h3 V => ?_))
    refine wq_istore_n (L' := [some (.ref x0), some (.int x1), some (.int y2), some (.int y6)]) (pc := 30) dJ2_grow_2_30 rfl (Nat.le_of_ble_eq_true rfl) rfl ?_
    refine wq_aload_n (pc := 31) dJ2_grow_2_31 rfl rfl ?_
    refine wq_aload_n (pc := 32) dJ2_grow_2_32 rfl rfl ?_
    refine gfq202 (pc := 33) rfl dJ2_grow_2_33 V (fun a7 V => ?_)
    refine wq_iload_n (pc := 36) dJ2_grow_2_36 rfl rfl ?_
    refine clq756 (pc := 37) (As := [.ref a7, .int y6]) (st := [.ref x0]) rfl dJ2_grow_2_37 rfl (Nat.le_of_ble_eq_true rfl) V (fun C9 S10 => wx_kq (fun r11 h8 V => ?_))
    refine wq_dup_x1 (pc := 40) dJ2_grow_2_40 (wq_cat1 _) rfl ?_
    refine pfq202 (pc := 41) rfl dJ2_grow_2_41 (wq_nfr rfl r11) V (fun h12 V => ?_)
    refine wq_aret (r := r11) (pc := 44) dJ2_grow_2_44 rfl rfl ⟨_, rfl, V⟩
  · have V := V.2 c
    refine wq_aload_n (pc := 10) dJ2_grow_2_10 rfl rfl ?_
    refine gfq202 (pc := 11) rfl dJ2_grow_2_11 V (fun a13 V => ?_)
    refine wq_gets (pc := 14) (Cn := "java/util/ArrayList") (n := "DEFAULTCAPACITY_EMPTY_ELEMENTDATA") (ds := "[Ljava/lang/Object;") (v := .ref (G.2.2.2.2 0)) (by simp) q200 dJ2_grow_2_14 ?_
    refine wq_acmp_eq (x := (some a13)) (y := (some (G.2.2.2.2 0))) (pc := 17) (tgt := 45) dJ2_grow_2_17 rfl (fun c => ?_) (fun c => ?_)
    · have V := V.1 c
      refine wq_aload_n (pc := 45) dJ2_grow_2_45 rfl rfl ?_
      refine wq_bipush (pc := 46) dJ2_grow_2_46 gstb10 ?_
      refine wq_iload_n (pc := 48) dJ2_grow_2_48 rfl rfl ?_
      refine clq791 (pc := 49) (As := [.int (10 : Int32), .int x1]) (st := [.ref x0]) rfl dJ2_grow_2_49 rfl (Nat.le_of_ble_eq_true rfl) V (fun C15 S16 => wx_ki (fun y17 h14 V => ?_))
      refine wx_nR (pc := 52) q792 dJ2_grow_2_52 V (fun a18 h19 V => ?_)
      refine wq_dup_x1 (pc := 55) dJ2_grow_2_55 rfl rfl ?_
      refine pfq202 (pc := 56) rfl dJ2_grow_2_56 (wq_nfr rfl (some a18)) V (fun h20 V => ?_)
      refine wq_aret (r := (some a18)) (pc := 59) dJ2_grow_2_59 rfl rfl ⟨_, rfl, V⟩
    · have V := V.2 c
      refine wq_iload_n (pc := 20) dJ2_grow_2_20 rfl rfl ?_
      refine wq_iload_n (pc := 21) dJ2_grow_2_21 rfl rfl ?_
      refine wq_iload_n (pc := 22) dJ2_grow_2_22 rfl rfl ?_
      refine wq_isub (pc := 23) dJ2_grow_2_23 ?_
      refine wq_iload_n (pc := 24) dJ2_grow_2_24 rfl rfl ?_
      refine wq_iconst (pc := 25) dJ2_grow_2_25 gsti1 ?_
      refine wq_ishr (pc := 26) dJ2_grow_2_26 ?_
      refine clq755 (pc := 27) (As := [.int y2, .int (x1 - y2), .int (y2 >>> ((1 : Int32) &&& 31))]) (st := []) rfl dJ2_grow_2_27 rfl (Nat.le_of_ble_eq_true rfl) V (fun C22 S23 => wx_ki (fun y24 h21 V => ?_))
      refine wq_istore_n (L' := [some (.ref x0), some (.int x1), some (.int y2), some (.int y24)]) (pc := 30) dJ2_grow_2_30 rfl (Nat.le_of_ble_eq_true rfl) rfl ?_
      refine wq_aload_n (pc := 31) dJ2_grow_2_31 rfl rfl ?_
      refine wq_aload_n (pc := 32) dJ2_grow_2_32 rfl rfl ?_
      refine gfq202 (pc := 33) rfl dJ2_grow_2_33 V (fun a25 V => ?_)
      refine wq_iload_n (pc := 36) dJ2_grow_2_36 rfl rfl ?_
      refine clq756 (pc := 37) (As := [.ref a25, .int y24]) (st := [.ref x0]) rfl dJ2_grow_2_37 rfl (Nat.le_of_ble_eq_true rfl) V (fun C27 S28 => wx_kq (fun r29 h26 V => ?_))
      refine wq_dup_x1 (pc := 40) dJ2_grow_2_40 (wq_cat1 _) rfl ?_
      refine pfq202 (pc := 41) rfl dJ2_grow_2_41 (wq_nfr rfl r29) V (fun h30 V => ?_)
      refine wq_aret (r := r29) (pc := 44) dJ2_grow_2_44 rfl rfl ⟨_, rfl, V⟩
theorem vJ2_isEmpty_0 {G : wq_G} {l : Launch} {d C S : Nat} {K : Int32 → wq_H → Prop} {x0 : Nat} {h : wq_H} (V : wq_gI h x0 [(16, 2)] (fun y1 => (¬ y1 = 0 → K (0 : Int32) h) ∧ (y1 = 0 → K (1 : Int32) h))) : wq_T G l d mJ2_isEmpty (wq_qi K) 0 [some (.ref x0)] [] h C S := by
  refine wq_aload_n (pc := 0) dJ2_isEmpty_0 rfl rfl ?_
  refine gfq203 (pc := 1) rfl dJ2_isEmpty_1 V (fun y1 V => ?_)
  refine wq_if_ne (pc := 4) (tgt := 11) dJ2_isEmpty_4 rfl (fun c => ?_) (fun c => ?_)
  · have V := V.1 c
    refine wq_iconst (pc := 11) dJ2_isEmpty_11 gsti0 ?_
    refine wq_zret (pc := 12) dJ2_isEmpty_12 rfl gn_b0 ⟨_, rfl, V⟩
  · have V := V.2 c
    refine wq_iconst (pc := 7) dJ2_isEmpty_7 gsti1 ?_
    refine wq_goto (pc := 8) (tgt := 12) dJ2_isEmpty_8 rfl ?_
    refine wq_zret (pc := 12) dJ2_isEmpty_12 rfl gn_b1 ⟨_, rfl, V⟩
theorem vJ2_clear_0 {G : wq_G} {l : Launch} {d C S : Nat} {K : wq_H → Prop} {x0 : Nat} {h : wq_H} (V : wq_gI h x0 [(16, 0)] (fun y1 => wq_pf G h x0 [(16, 0)] (.int (y1 + (1 : Int32))) (fun h2 => wq_gR h2 x0 [(16, 1)] (fun a3 => wq_gI h2 x0 [(16, 2)] (fun y4 => wq_pf G h2 x0 [(16, 2)] (.int (0 : Int32)) (fun h5 => wq_T G l d mJ2_clear (wq_qv K) 27 [none, some (.ref a3), some (.int y4), some (.int (0 : Int32))] [] h5 C S)))))) : wq_T G l d mJ2_clear (wq_qv K) 0 [some (.ref x0), none, none, none] [] h C S := by
  refine wq_aload_n (pc := 0) dJ2_clear_0 rfl rfl ?_
  refine wq_dup (pc := 1) dJ2_clear_1 rfl ?_
  refine gfq205 (pc := 2) rfl dJ2_clear_2 V (fun y1 V => ?_)
  refine wq_iconst (pc := 5) dJ2_clear_5 gsti1 ?_
  refine wq_iadd (pc := 6) dJ2_clear_6 ?_
  refine pfq205 (pc := 7) rfl dJ2_clear_7 ⟨rfl, rfl⟩ V (fun h2 V => ?_)
  refine wq_aload_n (pc := 10) dJ2_clear_10 rfl rfl ?_
  refine gfq202 (pc := 11) rfl dJ2_clear_11 V (fun a3 V => ?_)
  refine wq_astore_n (L' := [some (.ref x0), some (.ref a3), none, none]) (pc := 14) dJ2_clear_14 rfl (Nat.le_of_ble_eq_true rfl) rfl ?_
  refine wq_aload_n (pc := 15) dJ2_clear_15 rfl rfl ?_
  refine gfq203 (pc := 16) rfl dJ2_clear_16 V (fun y4 V => ?_)
  refine wq_istore_n (L' := [some (.ref x0), some (.ref a3), some (.int y4), none]) (pc := 19) dJ2_clear_19 rfl (Nat.le_of_ble_eq_true rfl) rfl ?_
  refine wq_aload_n (pc := 20) dJ2_clear_20 rfl rfl ?_
  refine wq_iconst (pc := 21) dJ2_clear_21 gsti0 ?_
  refine wq_dup_x1 (pc := 22) dJ2_clear_22 rfl rfl ?_
  refine pfq203 (pc := 23) rfl dJ2_clear_23 ⟨rfl, rfl⟩ V (fun h5 V => ?_)
  refine wq_istore_n (L' := [some (.ref x0), some (.ref a3), some (.int y4), some (.int (0 : Int32))]) (pc := 26) dJ2_clear_26 rfl (Nat.le_of_ble_eq_true rfl) rfl ?_
  exact wq_T.less V ⟨rfl, ⟨rfl, ⟨rfl, trivial⟩⟩⟩
theorem vJ2_clear_27 {G : wq_G} {l : Launch} {d C S : Nat} {K : wq_H → Prop} {x1 : Nat} {x2 : Int32} {x3 : Int32} {h : wq_H} (V : (x2 ≤ x3 → K h) ∧ (¬ x2 ≤ x3 → wq_sr G h x1 x3 none (fun h1 => wq_T G l d mJ2_clear (wq_qv K) 27 [none, some (.ref x1), some (.int x2), some (.int (x3 + (1 : Int32)))] [] h1 C S))) : wq_T G l d mJ2_clear (wq_qv K) 27 [none, some (.ref x1), some (.int x2), some (.int x3)] [] h C S := by
  refine wq_iload_n (pc := 27) dJ2_clear_27 rfl rfl ?_
  refine wq_iload_n (pc := 28) dJ2_clear_28 rfl rfl ?_
  refine wq_icmp_ge (pc := 29) (tgt := 42) dJ2_clear_29 rfl (fun c => ?_) (fun c => ?_)
  · have V := V.1 c
    refine wq_vret (pc := 42) dJ2_clear_42 rfl ⟨rfl, V⟩
  · have V := V.2 c
    refine wq_aload_n (pc := 32) dJ2_clear_32 rfl rfl ?_
    refine wq_iload_n (pc := 33) dJ2_clear_33 rfl rfl ?_
    refine wq_aconst (pc := 34) dJ2_clear_34 ?_
    refine wx_sr (r := none) (pc := 35) dJ2_clear_35 V (fun h1 V => ?_)
    refine wq_iinc (L' := [none, some (.ref x1), some (.int x2), some (.int (x3 + (1 : Int32)))]) (pc := 36) dJ2_clear_36 rfl (by rw [gsti1]) (Nat.le_of_ble_eq_true rfl) rfl ?_
    refine wq_goto (pc := 39) (tgt := 27) dJ2_clear_39 rfl ?_
    exact wq_T.less V ⟨rfl, ⟨rfl, ⟨rfl, trivial⟩⟩⟩
theorem vJ2_remove_0 {G : wq_G} {l : Launch} {d C S : Nat} {K : Option Nat → wq_H → Prop} {x0 : Nat} {x1 : Int32} {h : wq_H} (V : wq_gI h x0 [(16, 2)] (fun y1 => wq_ci G l d C S mJ12_checkIndex [.int x1, .int y1] h (fun y5 h2 C3 S4 => wq_gR h2 x0 [(16, 1)] (fun a6 => wq_ar G h2 a6 x1 (fun r7 => ∃ fs11 : List Value, h2 x0 = some (.inr (16, fs11)) ∧ (wq_cw G l d C3 S4 mJ2_fastRemove [.ref x0, .ref a6, .int x1] h2 (fun h8 C9 S10 => K r7 h8))))))) : wq_T G l d mJ2_remove (wq_qq K) 0 [some (.ref x0), some (.int x1), none, none] [] h C S := by
  refine wq_iload_n (pc := 0) dJ2_remove_0 rfl rfl ?_
  refine wq_aload_n (pc := 1) dJ2_remove_1 rfl rfl ?_
  refine gfq203 (pc := 2) rfl dJ2_remove_2 V (fun y1 V => ?_)
  refine clq730 (pc := 5) (As := [.int x1, .int y1]) (st := []) rfl dJ2_remove_5 rfl (Nat.le_of_ble_eq_true rfl) V (fun C3 S4 => wx_ki (fun y5 h2 V => ?_))
  refine wq_pop (pc := 8) dJ2_remove_8 rfl ?_
  refine wq_aload_n (pc := 9) dJ2_remove_9 rfl rfl ?_
  refine gfq202 (pc := 10) rfl dJ2_remove_10 V (fun a6 V => ?_)
  refine wq_astore_n (L' := [some (.ref x0), some (.int x1), some (.ref a6), none]) (pc := 13) dJ2_remove_13 rfl (Nat.le_of_ble_eq_true rfl) rfl ?_
  refine wq_aload_n (pc := 14) dJ2_remove_14 rfl rfl ?_
  refine wq_iload_n (pc := 15) dJ2_remove_15 rfl rfl ?_
  refine wx_ar (pc := 16) dJ2_remove_16 V (fun r7 V => ?_)
  refine wq_astore_nQ (L' := [some (.ref x0), some (.int x1), some (.ref a6), some (va_rf r7)]) (pc := 17) dJ2_remove_17 rfl (Nat.le_of_ble_eq_true rfl) rfl ?_
  refine wq_aload_n (pc := 18) dJ2_remove_18 rfl rfl ?_
  refine wq_aload_n (pc := 19) dJ2_remove_19 rfl rfl ?_
  refine wq_iload_n (pc := 20) dJ2_remove_20 rfl rfl ?_
  obtain ⟨fs11, w12, V⟩ := V
  refine clq1498 (pc := 21) (As := [.ref a6, .int x1]) (st := []) rfl dJ2_remove_21 rfl (Nat.le_of_ble_eq_true rfl) w12 V (fun C9 S10 => wx_kv (fun h8 V => ?_))
  refine wq_aload_nQ (pc := 24) dJ2_remove_24 rfl rfl ?_
  refine wq_aret (r := r7) (pc := 25) dJ2_remove_25 rfl rfl ⟨_, rfl, V⟩
theorem vJ2_fastRemove_0 {G : wq_G} {l : Launch} {d C S : Nat} {K : wq_H → Prop} (hd1 : 1 ≤ d) {x0 : Nat} {x1 : Nat} {x2 : Int32} {h : wq_H} (V : wq_gI h x0 [(16, 0)] (fun y1 => wq_pf G h x0 [(16, 0)] (.int (y1 + (1 : Int32))) (fun h2 => wq_gI h2 x0 [(16, 2)] (fun y3 => ((y3 - (1 : Int32)) ≤ x2 → wq_pf G h2 x0 [(16, 2)] (.int (y3 - (1 : Int32))) (fun h4 => wq_sr G h4 x1 (y3 - (1 : Int32)) none (fun h5 => K h5))) ∧ (¬ (y3 - (1 : Int32)) ≤ x2 → wq_cpR G h2 x1 (x2 + (1 : Int32)) x1 x2 ((y3 - (1 : Int32)) - x2) (fun h6 => wq_pf G h6 x0 [(16, 2)] (.int (y3 - (1 : Int32))) (fun h7 => wq_sr G h7 x1 (y3 - (1 : Int32)) none (fun h8 => K h8)))))))) : wq_T G l d mJ2_fastRemove (wq_qv K) 0 [some (.ref x0), some (.ref x1), some (.int x2), none] [] h C S := by
  refine wq_aload_n (pc := 0) dJ2_fastRemove_0 rfl rfl ?_
  refine wq_dup (pc := 1) dJ2_fastRemove_1 rfl ?_
  refine gfq205 (pc := 2) rfl dJ2_fastRemove_2 V (fun y1 V => ?_)
  refine wq_iconst (pc := 5) dJ2_fastRemove_5 gsti1 ?_
  refine wq_iadd (pc := 6) dJ2_fastRemove_6 ?_
  refine pfq205 (pc := 7) rfl dJ2_fastRemove_7 ⟨rfl, rfl⟩ V (fun h2 V => ?_)
  refine wq_aload_n (pc := 10) dJ2_fastRemove_10 rfl rfl ?_
  refine gfq203 (pc := 11) rfl dJ2_fastRemove_11 V (fun y3 V => ?_)
  refine wq_iconst (pc := 14) dJ2_fastRemove_14 gsti1 ?_
  refine wq_isub (pc := 15) dJ2_fastRemove_15 ?_
  refine wq_dup (pc := 16) dJ2_fastRemove_16 rfl ?_
  refine wq_istore_n (L' := [some (.ref x0), some (.ref x1), some (.int x2), some (.int (y3 - (1 : Int32)))]) (pc := 17) dJ2_fastRemove_17 rfl (Nat.le_of_ble_eq_true rfl) rfl ?_
  refine wq_iload_n (pc := 18) dJ2_fastRemove_18 rfl rfl ?_
  refine wq_icmp_le (pc := 19) (tgt := 34) dJ2_fastRemove_19 rfl (fun c => ?_) (fun c => ?_)
  · have V := V.1 c
    refine wq_aload_n (pc := 34) dJ2_fastRemove_34 rfl rfl ?_
    refine wq_aload_n (pc := 35) dJ2_fastRemove_35 rfl rfl ?_
    refine wq_iload_n (pc := 36) dJ2_fastRemove_36 rfl rfl ?_
    refine wq_dup_x1 (pc := 37) dJ2_fastRemove_37 rfl rfl ?_
    refine pfq203 (pc := 38) rfl dJ2_fastRemove_38 ⟨rfl, rfl⟩ V (fun h4 V => ?_)
    refine wq_aconst (pc := 41) dJ2_fastRemove_41 ?_
    refine wx_sr (r := none) (pc := 42) dJ2_fastRemove_42 V (fun h5 V => ?_)
    refine wq_vret (pc := 43) dJ2_fastRemove_43 rfl ⟨rfl, V⟩
  · have V := V.2 c
    refine wq_aload_n (pc := 22) dJ2_fastRemove_22 rfl rfl ?_
    refine wq_iload_n (pc := 23) dJ2_fastRemove_23 rfl rfl ?_
    refine wq_iconst (pc := 24) dJ2_fastRemove_24 gsti1 ?_
    refine wq_iadd (pc := 25) dJ2_fastRemove_25 ?_
    refine wq_aload_n (pc := 26) dJ2_fastRemove_26 rfl rfl ?_
    refine wq_iload_n (pc := 27) dJ2_fastRemove_27 rfl rfl ?_
    refine wq_iload_n (pc := 28) dJ2_fastRemove_28 rfl rfl ?_
    refine wq_iload_n (pc := 29) dJ2_fastRemove_29 rfl rfl ?_
    refine wq_isub (pc := 30) dJ2_fastRemove_30 ?_
    refine wx_cpR (pc := 31) (by exact q1502) dJ2_fastRemove_31 (Nat.le_of_ble_eq_true rfl) hd1 V (fun h6 V => ?_)
    refine wq_aload_n (pc := 34) dJ2_fastRemove_34 rfl rfl ?_
    refine wq_aload_n (pc := 35) dJ2_fastRemove_35 rfl rfl ?_
    refine wq_iload_n (pc := 36) dJ2_fastRemove_36 rfl rfl ?_
    refine wq_dup_x1 (pc := 37) dJ2_fastRemove_37 rfl rfl ?_
    refine pfq203 (pc := 38) rfl dJ2_fastRemove_38 ⟨rfl, rfl⟩ V (fun h7 V => ?_)
    refine wq_aconst (pc := 41) dJ2_fastRemove_41 ?_
    refine wx_sr (r := none) (pc := 42) dJ2_fastRemove_42 V (fun h8 V => ?_)
    refine wq_vret (pc := 43) dJ2_fastRemove_43 rfl ⟨rfl, V⟩
theorem vJ2_set_0 {G : wq_G} {l : Launch} {d C S : Nat} {K : Option Nat → wq_H → Prop} {x0 : Nat} {x1 : Int32} {x2 : Nat} {h : wq_H} (V : wq_gI h x0 [(16, 2)] (fun y1 => wq_ci G l d C S mJ12_checkIndex [.int x1, .int y1] h (fun y5 h2 C3 S4 => ∃ fs10 : List Value, h2 x0 = some (.inr (16, fs10)) ∧ (wq_cq G l d C3 S4 mJ2_elementData [.ref x0, .int x1] h2 (fun r9 h6 C7 S8 => wq_gR h6 x0 [(16, 1)] (fun a12 => wq_sr G h6 a12 x1 (some x2) (fun h13 => K r9 h13))))))) : wq_T G l d mJ2_set (wq_qq K) 0 [some (.ref x0), some (.int x1), some (.ref x2), none] [] h C S := by
  refine wq_iload_n (pc := 0) dJ2_set_0 rfl rfl ?_
  refine wq_aload_n (pc := 1) dJ2_set_1 rfl rfl ?_
  refine gfq203 (pc := 2) rfl dJ2_set_2 V (fun y1 V => ?_)
  refine clq730 (pc := 5) (As := [.int x1, .int y1]) (st := []) rfl dJ2_set_5 rfl (Nat.le_of_ble_eq_true rfl) V (fun C3 S4 => wx_ki (fun y5 h2 V => ?_))
  refine wq_pop (pc := 8) dJ2_set_8 rfl ?_
  refine wq_aload_n (pc := 9) dJ2_set_9 rfl rfl ?_
  refine wq_iload_n (pc := 10) dJ2_set_10 rfl rfl ?_
  obtain ⟨fs10, w11, V⟩ := V
  refine clq734 (pc := 11) (As := [.int x1]) (st := []) rfl dJ2_set_11 rfl (Nat.le_of_ble_eq_true rfl) w11 V (fun C7 S8 => wx_kq (fun r9 h6 V => ?_))
  refine wq_astore_nQ (L' := [some (.ref x0), some (.int x1), some (.ref x2), some (va_rf r9)]) (pc := 14) dJ2_set_14 rfl (Nat.le_of_ble_eq_true rfl) rfl ?_
  refine wq_aload_n (pc := 15) dJ2_set_15 rfl rfl ?_
  refine gfq202 (pc := 16) rfl dJ2_set_16 V (fun a12 V => ?_)
  refine wq_iload_n (pc := 19) dJ2_set_19 rfl rfl ?_
  refine wq_aload_n (pc := 20) dJ2_set_20 rfl rfl ?_
  refine wx_sr (r := (some x2)) (pc := 21) dJ2_set_21 V (fun h13 V => ?_)
  refine wq_aload_nQ (pc := 22) dJ2_set_22 rfl rfl ?_
  refine wq_aret (r := r9) (pc := 23) dJ2_set_23 rfl rfl ⟨_, rfl, V⟩
theorem vJ3_init_0 {G : wq_G} {l : Launch} {d C S : Nat} {K : wq_H → Prop} (hd1 : 1 ≤ d) {x0 : Nat} {x1 : Int32} {h : wq_H} (V : ((1 : Int32) = 0 → wq_cq G l d C S mJ6_newBytesFor [.int x1] h (fun r4 h1 C2 S3 => wq_pf G h1 x0 [(17, 0)] (va_rf r4) (fun h5 => wq_pf G h5 x0 [(17, 1)] (.int (1 : Int32)) (fun h6 => K h6)))) ∧ (¬ (1 : Int32) = 0 → wq_na G h (.inl (G.2.2.1 2, x1.toNatClampNeg, .inl (fun _ => 0))) x1 x1.toNatClampNeg C S (fun a7 h8 => wq_pf G h8 x0 [(17, 0)] (.ref a7) (fun h9 => wq_pf G h9 x0 [(17, 1)] (.int (0 : Int32)) (fun h10 => K h10))))) : wq_T G l d mJ3_init (wq_qv K) 0 [some (.ref x0), some (.int x1)] [] h C S := by
  refine wq_aload_n (pc := 0) dJ3_init_0 rfl rfl ?_
  refine wq_objInit (pc := 1) q386 q157 q158 dJ3_init_1 (Nat.le_of_ble_eq_true rfl) hd1 ?_
  refine wq_gets (pc := 4) (Cn := "java/lang/String") (n := "COMPACT_STRINGS") (ds := "Z") (v := .int (1 : Int32)) (by simp) q387 dJ3_init_4 ?_
  refine wq_if_eq (pc := 7) (tgt := 25) dJ3_init_7 rfl (fun c => ?_) (fun c => ?_)
  · have V := V.1 c
    refine wq_aload_n (pc := 25) dJ3_init_25 rfl rfl ?_
    refine wq_iload_n (pc := 26) dJ3_init_26 rfl rfl ?_
    refine clq389 (pc := 27) (As := [.int x1]) (st := [.ref x0]) rfl dJ3_init_27 rfl (Nat.le_of_ble_eq_true rfl) V (fun C2 S3 => wx_kq (fun r4 h1 V => ?_))
    refine pfq396 (pc := 30) rfl dJ3_init_30 (wq_nfr rfl r4) V (fun h5 V => ?_)
    refine wq_aload_n (pc := 33) dJ3_init_33 rfl rfl ?_
    refine wq_iconst (pc := 34) dJ3_init_34 gsti1 ?_
    refine pfq397 (pc := 35) rfl dJ3_init_35 ⟨by decide, by decide⟩ V (fun h6 V => ?_)
    refine wq_vret (pc := 38) dJ3_init_38 rfl ⟨rfl, V⟩
  · have V := V.2 c
    refine wq_aload_n (pc := 10) dJ3_init_10 rfl rfl ?_
    refine wq_iload_n (pc := 11) dJ3_init_11 rfl rfl ?_
    refine wx_nB (pc := 12) q185 dJ3_init_12 V (fun a7 h8 V => ?_)
    refine pfq396 (pc := 14) rfl dJ3_init_14 (wq_nfr rfl (some a7)) V (fun h9 V => ?_)
    refine wq_aload_n (pc := 17) dJ3_init_17 rfl rfl ?_
    refine wq_iconst (pc := 18) dJ3_init_18 gsti0 ?_
    refine pfq397 (pc := 19) rfl dJ3_init_19 ⟨by decide, by decide⟩ V (fun h10 V => ?_)
    refine wq_goto (pc := 22) (tgt := 38) dJ3_init_22 rfl ?_
    refine wq_vret (pc := 38) dJ3_init_38 rfl ⟨rfl, V⟩
theorem vJ3_append_0 {G : wq_G} {l : Launch} {d C S : Nat} {K : Option Nat → wq_H → Prop} {x0 : Nat} {x1 : Int32} {h : wq_H} (V : wq_gI h x0 [(17, 3)] (fun y1 => ∃ fs5 : List Value, h x0 = some (.inr (17, fs5)) ∧ (wq_cw G l d C S mJ3_ensureCapacityInternal [.ref x0, .int (y1 + (1 : Int32))] h (fun h2 C3 S4 => ∃ fs11 : List Value, h2 x0 = some (.inr (17, fs11)) ∧ (wq_ci G l d C3 S4 mJ3_isLatin1 [.ref x0] h2 (fun y10 h7 C8 S9 => (y10 = 0 → ∃ fs17 : List Value, h7 x0 = some (.inr (17, fs17)) ∧ (wq_ci G l d C8 S9 mJ3_isLatin1 [.ref x0] h7 (fun y16 h13 C14 S15 => (y16 = 0 → wq_gR h13 x0 [(17, 0)] (fun a19 => wq_gI h13 x0 [(17, 3)] (fun y20 => wq_pf G h13 x0 [(17, 3)] (.int (y20 + (1 : Int32))) (fun h21 => wq_cw G l d C14 S15 mJ6_putCharSB [.ref a19, .int y20, .int x1] h21 (fun h22 C23 S24 => K (some x0) h22))))) ∧ (¬ y16 = 0 → ∃ fs28 : List Value, h13 x0 = some (.inr (17, fs28)) ∧ (wq_cw G l d C14 S15 mJ3_inflate [.ref x0] h13 (fun h25 C26 S27 => wq_gR h25 x0 [(17, 0)] (fun a30 => wq_gI h25 x0 [(17, 3)] (fun y31 => wq_pf G h25 x0 [(17, 3)] (.int (y31 + (1 : Int32))) (fun h32 => wq_cw G l d C26 S27 mJ6_putCharSB [.ref a30, .int y31, .int x1] h32 (fun h33 C34 S35 => K (some x0) h33)))))))))) ∧ (¬ y10 = 0 → wq_ci G l d C8 S9 mJ10_canEncode [.int x1] h7 (fun y39 h36 C37 S38 => (y39 = 0 → ∃ fs44 : List Value, h36 x0 = some (.inr (17, fs44)) ∧ (wq_ci G l d C37 S38 mJ3_isLatin1 [.ref x0] h36 (fun y43 h40 C41 S42 => (y43 = 0 → wq_gR h40 x0 [(17, 0)] (fun a46 => wq_gI h40 x0 [(17, 3)] (fun y47 => wq_pf G h40 x0 [(17, 3)] (.int (y47 + (1 : Int32))) (fun h48 => wq_cw G l d C41 S42 mJ6_putCharSB [.ref a46, .int y47, .int x1] h48 (fun h49 C50 S51 => K (some x0) h49))))) ∧ (¬ y43 = 0 → ∃ fs55 : List Value, h40 x0 = some (.inr (17, fs55)) ∧ (wq_cw G l d C41 S42 mJ3_inflate [.ref x0] h40 (fun h52 C53 S54 => wq_gR h52 x0 [(17, 0)] (fun a57 => wq_gI h52 x0 [(17, 3)] (fun y58 => wq_pf G h52 x0 [(17, 3)] (.int (y58 + (1 : Int32))) (fun h59 => wq_cw G l d C53 S54 mJ6_putCharSB [.ref a57, .int y58, .int x1] h59 (fun h60 C61 S62 => K (some x0) h60)))))))))) ∧ (¬ y39 = 0 → wq_gR h36 x0 [(17, 0)] (fun a63 => wq_gI h36 x0 [(17, 3)] (fun y64 => wq_pf G h36 x0 [(17, 3)] (.int (y64 + (1 : Int32))) (fun h65 => wq_sb G h65 a63 y64 x1.toInt8.toInt32 (fun h66 => K (some x0) h66))))))))))))) : wq_T G l d mJ3_append (wq_qq K) 0 [some (.ref x0), some (.int x1)] [] h C S := by
  refine wq_aload_n (pc := 0) dJ3_append_0 rfl rfl ?_
  refine wq_aload_n (pc := 1) dJ3_append_1 rfl rfl ?_
  refine gfq399 (pc := 2) rfl dJ3_append_2 V (fun y1 V => ?_)
  refine wq_iconst (pc := 5) dJ3_append_5 gsti1 ?_
  refine wq_iadd (pc := 6) dJ3_append_6 ?_
  obtain ⟨fs5, w6, V⟩ := V
  refine clq416 (pc := 7) (As := [.int (y1 + (1 : Int32))]) (st := []) rfl dJ3_append_7 rfl (Nat.le_of_ble_eq_true rfl) w6 V (fun C3 S4 => wx_kv (fun h2 V => ?_))
  refine wq_aload_n (pc := 10) dJ3_append_10 rfl rfl ?_
  obtain ⟨fs11, w12, V⟩ := V
  refine clq451 (pc := 11) (As := []) (st := []) rfl dJ3_append_11 rfl (Nat.le_of_ble_eq_true rfl) w12 V (fun C8 S9 => wx_ki (fun y10 h7 V => ?_))
  refine wq_if_eq (pc := 14) (tgt := 45) dJ3_append_14 rfl (fun c => ?_) (fun c => ?_)
  · have V := V.1 c
    refine wq_aload_n (pc := 45) dJ3_append_45 rfl rfl ?_
    obtain ⟨fs17, w18, V⟩ := V
    refine clq451 (pc := 46) (As := []) (st := []) rfl dJ3_append_46 rfl (Nat.le_of_ble_eq_true rfl) w18 V (fun C14 S15 => wx_ki (fun y16 h13 V => ?_))
    refine wq_if_eq (pc := 49) (tgt := 56) dJ3_append_49 rfl (fun c => ?_) (fun c => ?_)
    · have V := V.1 c
      refine wq_aload_n (pc := 56) dJ3_append_56 rfl rfl ?_
      refine gfq396 (pc := 57) rfl dJ3_append_57 V (fun a19 V => ?_)
      refine wq_aload_n (pc := 60) dJ3_append_60 rfl rfl ?_
      refine wq_dup (pc := 61) dJ3_append_61 rfl ?_
      refine gfq399 (pc := 62) rfl dJ3_append_62 V (fun y20 V => ?_)
      refine wq_dup_x1 (pc := 65) dJ3_append_65 rfl rfl ?_
      refine wq_iconst (pc := 66) dJ3_append_66 gsti1 ?_
      refine wq_iadd (pc := 67) dJ3_append_67 ?_
      refine pfq399 (pc := 68) rfl dJ3_append_68 ⟨rfl, rfl⟩ V (fun h21 V => ?_)
      refine wq_iload_n (pc := 71) dJ3_append_71 rfl rfl ?_
      refine clq492 (pc := 72) (As := [.ref a19, .int y20, .int x1]) (st := []) rfl dJ3_append_72 rfl (Nat.le_of_ble_eq_true rfl) V (fun C23 S24 => wx_kv (fun h22 V => ?_))
      refine wq_aload_n (pc := 75) dJ3_append_75 rfl rfl ?_
      refine wq_aret (r := (some x0)) (pc := 76) dJ3_append_76 rfl rfl ⟨_, rfl, V⟩
    · have V := V.2 c
      refine wq_aload_n (pc := 52) dJ3_append_52 rfl rfl ?_
      obtain ⟨fs28, w29, V⟩ := V
      refine clq459 (pc := 53) (As := []) (st := []) rfl dJ3_append_53 rfl (Nat.le_of_ble_eq_true rfl) w29 V (fun C26 S27 => wx_kv (fun h25 V => ?_))
      refine wq_aload_n (pc := 56) dJ3_append_56 rfl rfl ?_
      refine gfq396 (pc := 57) rfl dJ3_append_57 V (fun a30 V => ?_)
      refine wq_aload_n (pc := 60) dJ3_append_60 rfl rfl ?_
      refine wq_dup (pc := 61) dJ3_append_61 rfl ?_
      refine gfq399 (pc := 62) rfl dJ3_append_62 V (fun y31 V => ?_)
      refine wq_dup_x1 (pc := 65) dJ3_append_65 rfl rfl ?_
      refine wq_iconst (pc := 66) dJ3_append_66 gsti1 ?_
      refine wq_iadd (pc := 67) dJ3_append_67 ?_
      refine pfq399 (pc := 68) rfl dJ3_append_68 ⟨rfl, rfl⟩ V (fun h32 V => ?_)
      refine wq_iload_n (pc := 71) dJ3_append_71 rfl rfl ?_
      refine clq492 (pc := 72) (As := [.ref a30, .int y31, .int x1]) (st := []) rfl dJ3_append_72 rfl (Nat.le_of_ble_eq_true rfl) V (fun C34 S35 => wx_kv (fun h33 V => ?_))
      refine wq_aload_n (pc := 75) dJ3_append_75 rfl rfl ?_
      refine wq_aret (r := (some x0)) (pc := 76) dJ3_append_76 rfl rfl ⟨_, rfl, V⟩
  · have V := V.2 c
    refine wq_iload_n (pc := 17) dJ3_append_17 rfl rfl ?_
    refine clq456 (pc := 18) (As := [.int x1]) (st := []) rfl dJ3_append_18 rfl (Nat.le_of_ble_eq_true rfl) V (fun C37 S38 => wx_ki (fun y39 h36 V => ?_))
    refine wq_if_eq (pc := 21) (tgt := 45) dJ3_append_21 rfl (fun c => ?_) (fun c => ?_)
    · have V := V.1 c
      refine wq_aload_n (pc := 45) dJ3_append_45 rfl rfl ?_
      obtain ⟨fs44, w45, V⟩ := V
      refine clq451 (pc := 46) (As := []) (st := []) rfl dJ3_append_46 rfl (Nat.le_of_ble_eq_true rfl) w45 V (fun C41 S42 => wx_ki (fun y43 h40 V => ?_))
      refine wq_if_eq (pc := 49) (tgt := 56) dJ3_append_49 rfl (fun c => ?_) (fun c => ?_)
      · have V := V.1 c
        refine wq_aload_n (pc := 56) dJ3_append_56 rfl rfl ?_
        refine gfq396 (pc := 57) rfl dJ3_append_57 V (fun a46 V => ?_)
        refine wq_aload_n (pc := 60) dJ3_append_60 rfl rfl ?_
        refine wq_dup (pc := 61) dJ3_append_61 rfl ?_
        refine gfq399 (pc := 62) rfl dJ3_append_62 V (fun y47 V => ?_)
        refine wq_dup_x1 (pc := 65) dJ3_append_65 rfl rfl ?_
        refine wq_iconst (pc := 66) dJ3_append_66 gsti1 ?_
        refine wq_iadd (pc := 67) dJ3_append_67 ?_
        refine pfq399 (pc := 68) rfl dJ3_append_68 ⟨rfl, rfl⟩ V (fun h48 V => ?_)
        refine wq_iload_n (pc := 71) dJ3_append_71 rfl rfl ?_
        refine clq492 (pc := 72) (As := [.ref a46, .int y47, .int x1]) (st := []) rfl dJ3_append_72 rfl (Nat.le_of_ble_eq_true rfl) V (fun C50 S51 => wx_kv (fun h49 V => ?_))
        refine wq_aload_n (pc := 75) dJ3_append_75 rfl rfl ?_
        refine wq_aret (r := (some x0)) (pc := 76) dJ3_append_76 rfl rfl ⟨_, rfl, V⟩
      · have V := V.2 c
        refine wq_aload_n (pc := 52) dJ3_append_52 rfl rfl ?_
        obtain ⟨fs55, w56, V⟩ := V
        refine clq459 (pc := 53) (As := []) (st := []) rfl dJ3_append_53 rfl (Nat.le_of_ble_eq_true rfl) w56 V (fun C53 S54 => wx_kv (fun h52 V => ?_))
        refine wq_aload_n (pc := 56) dJ3_append_56 rfl rfl ?_
        refine gfq396 (pc := 57) rfl dJ3_append_57 V (fun a57 V => ?_)
        refine wq_aload_n (pc := 60) dJ3_append_60 rfl rfl ?_
        refine wq_dup (pc := 61) dJ3_append_61 rfl ?_
        refine gfq399 (pc := 62) rfl dJ3_append_62 V (fun y58 V => ?_)
        refine wq_dup_x1 (pc := 65) dJ3_append_65 rfl rfl ?_
        refine wq_iconst (pc := 66) dJ3_append_66 gsti1 ?_
        refine wq_iadd (pc := 67) dJ3_append_67 ?_
        refine pfq399 (pc := 68) rfl dJ3_append_68 ⟨rfl, rfl⟩ V (fun h59 V => ?_)
        refine wq_iload_n (pc := 71) dJ3_append_71 rfl rfl ?_
        refine clq492 (pc := 72) (As := [.ref a57, .int y58, .int x1]) (st := []) rfl dJ3_append_72 rfl (Nat.le_of_ble_eq_true rfl) V (fun C61 S62 => wx_kv (fun h60 V => ?_))
        refine wq_aload_n (pc := 75) dJ3_append_75 rfl rfl ?_
        refine wq_aret (r := (some x0)) (pc := 76) dJ3_append_76 rfl rfl ⟨_, rfl, V⟩
    · have V := V.2 c
      refine wq_aload_n (pc := 24) dJ3_append_24 rfl rfl ?_
      refine gfq396 (pc := 25) rfl dJ3_append_25 V (fun a63 V => ?_)
      refine wq_aload_n (pc := 28) dJ3_append_28 rfl rfl ?_
      refine wq_dup (pc := 29) dJ3_append_29 rfl ?_
      refine gfq399 (pc := 30) rfl dJ3_append_30 V (fun y64 V => ?_)
      refine wq_dup_x1 (pc := 33) dJ3_append_33 rfl rfl ?_
      refine wq_iconst (pc := 34) dJ3_append_34 gsti1 ?_
      refine wq_iadd (pc := 35) dJ3_append_35 ?_
      refine pfq399 (pc := 36) rfl dJ3_append_36 ⟨rfl, rfl⟩ V (fun h65 V => ?_)
      refine wq_iload_n (pc := 39) dJ3_append_39 rfl rfl ?_
      refine wq_i2b (pc := 40) dJ3_append_40 ?_
      refine wx_sb (pc := 41) dJ3_append_41 V (fun h66 V => ?_)
      refine wq_goto (pc := 42) (tgt := 75) dJ3_append_42 rfl ?_
      refine wq_aload_n (pc := 75) dJ3_append_75 rfl rfl ?_
      refine wq_aret (r := (some x0)) (pc := 76) dJ3_append_76 rfl rfl ⟨_, rfl, V⟩
theorem vJ3_ensureCapacityInternal_0 {G : wq_G} {l : Launch} {d C S : Nat} {K : wq_H → Prop} {x0 : Nat} {x1 : Int32} {h : wq_H} (V : wq_gR h x0 [(17, 0)] (fun a1 => wq_ag G h a1 (fun y2 => wq_gI h x0 [(17, 1)] (fun y3 => ((x1 - (y2 >>> (y3 &&& 31))) ≤ 0 → K h) ∧ (¬ (x1 - (y2 >>> (y3 &&& 31))) ≤ 0 → wq_gR h x0 [(17, 0)] (fun a4 => ∃ fs9 : List Value, h x0 = some (.inr (17, fs9)) ∧ (wq_ci G l d C S mJ3_newCapacity [.ref x0, .int x1] h (fun y8 h5 C6 S7 => wq_gI h5 x0 [(17, 1)] (fun y11 => wq_cq G l d C6 S7 mJ9_copyOf [.ref a4, .int (y8 <<< (y11 &&& 31))] h5 (fun r15 h12 C13 S14 => wq_pf G h12 x0 [(17, 0)] (va_rf r15) (fun h16 => K h16))))))))))) : wq_T G l d mJ3_ensureCapacityInternal (wq_qv K) 0 [some (.ref x0), some (.int x1), none] [] h C S := by
  refine wq_aload_n (pc := 0) dJ3_ensureCapacityInternal_0 rfl rfl ?_
  refine gfq396 (pc := 1) rfl dJ3_ensureCapacityInternal_1 V (fun a1 V => ?_)
  refine wx_al (pc := 4) dJ3_ensureCapacityInternal_4 V (fun y2 V => ?_)
  refine wq_aload_n (pc := 5) dJ3_ensureCapacityInternal_5 rfl rfl ?_
  refine gfq397 (pc := 6) rfl dJ3_ensureCapacityInternal_6 V (fun y3 V => ?_)
  refine wq_ishr (pc := 9) dJ3_ensureCapacityInternal_9 ?_
  refine wq_istore_n (L' := [some (.ref x0), some (.int x1), some (.int (y2 >>> (y3 &&& 31)))]) (pc := 10) dJ3_ensureCapacityInternal_10 rfl (Nat.le_of_ble_eq_true rfl) rfl ?_
  refine wq_iload_n (pc := 11) dJ3_ensureCapacityInternal_11 rfl rfl ?_
  refine wq_iload_n (pc := 12) dJ3_ensureCapacityInternal_12 rfl rfl ?_
  refine wq_isub (pc := 13) dJ3_ensureCapacityInternal_13 ?_
  refine wq_if_le (pc := 14) (tgt := 38) dJ3_ensureCapacityInternal_14 rfl (fun c => ?_) (fun c => ?_)
  · have V := V.1 c
    refine wq_vret (pc := 38) dJ3_ensureCapacityInternal_38 rfl ⟨rfl, V⟩
  · have V := V.2 c
    refine wq_aload_n (pc := 17) dJ3_ensureCapacityInternal_17 rfl rfl ?_
    refine wq_aload_n (pc := 18) dJ3_ensureCapacityInternal_18 rfl rfl ?_
    refine gfq396 (pc := 19) rfl dJ3_ensureCapacityInternal_19 V (fun a4 V => ?_)
    refine wq_aload_n (pc := 22) dJ3_ensureCapacityInternal_22 rfl rfl ?_
    refine wq_iload_n (pc := 23) dJ3_ensureCapacityInternal_23 rfl rfl ?_
    obtain ⟨fs9, w10, V⟩ := V
    refine clq420 (pc := 24) (As := [.int x1]) (st := [.ref a4, .ref x0]) rfl dJ3_ensureCapacityInternal_24 rfl (Nat.le_of_ble_eq_true rfl) w10 V (fun C6 S7 => wx_ki (fun y8 h5 V => ?_))
    refine wq_aload_n (pc := 27) dJ3_ensureCapacityInternal_27 rfl rfl ?_
    refine gfq397 (pc := 28) rfl dJ3_ensureCapacityInternal_28 V (fun y11 V => ?_)
    refine wq_ishl (pc := 31) dJ3_ensureCapacityInternal_31 ?_
    refine clq435 (pc := 32) (As := [.ref a4, .int (y8 <<< (y11 &&& 31))]) (st := [.ref x0]) rfl dJ3_ensureCapacityInternal_32 rfl (Nat.le_of_ble_eq_true rfl) V (fun C13 S14 => wx_kq (fun r15 h12 V => ?_))
    refine pfq396 (pc := 35) rfl dJ3_ensureCapacityInternal_35 (wq_nfr rfl r15) V (fun h16 V => ?_)
    refine wq_vret (pc := 38) dJ3_ensureCapacityInternal_38 rfl ⟨rfl, V⟩
theorem vJ3_newCapacity_0 {G : wq_G} {l : Launch} {d C S : Nat} {K : Int32 → wq_H → Prop} {x0 : Nat} {x1 : Int32} {h : wq_H} (V : wq_gR h x0 [(17, 0)] (fun a1 => wq_ag G h a1 (fun y2 => wq_gI h x0 [(17, 1)] (fun y3 => wq_gI h x0 [(17, 1)] (fun y4 => wq_ci G l d C S mJ7_newLength [.int y2, .int ((x1 <<< (y3 &&& 31)) - y2), .int (y2 + ((2 : Int32) <<< (y4 &&& 31)))] h (fun y8 h5 C6 S7 => (¬ y8 = (2147483647 : Int32) → wq_gI h5 x0 [(17, 1)] (fun y9 => K (y8 >>> (y9 &&& 31)) h5)) ∧ (y8 = (2147483647 : Int32) → False))))))) : wq_T G l d mJ3_newCapacity (wq_qi K) 0 [some (.ref x0), some (.int x1), none, none, none, none] [] h C S := by
  refine wq_aload_n (pc := 0) dJ3_newCapacity_0 rfl rfl ?_
  refine gfq396 (pc := 1) rfl dJ3_newCapacity_1 V (fun a1 V => ?_)
  refine wx_al (pc := 4) dJ3_newCapacity_4 V (fun y2 V => ?_)
  refine wq_istore_n (L' := [some (.ref x0), some (.int x1), some (.int y2), none, none, none]) (pc := 5) dJ3_newCapacity_5 rfl (Nat.le_of_ble_eq_true rfl) rfl ?_
  refine wq_iload_n (pc := 6) dJ3_newCapacity_6 rfl rfl ?_
  refine wq_aload_n (pc := 7) dJ3_newCapacity_7 rfl rfl ?_
  refine gfq397 (pc := 8) rfl dJ3_newCapacity_8 V (fun y3 V => ?_)
  refine wq_ishl (pc := 11) dJ3_newCapacity_11 ?_
  refine wq_istore_n (L' := [some (.ref x0), some (.int x1), some (.int y2), some (.int (x1 <<< (y3 &&& 31))), none, none]) (pc := 12) dJ3_newCapacity_12 rfl (Nat.le_of_ble_eq_true rfl) rfl ?_
  refine wq_iload_n (pc := 13) dJ3_newCapacity_13 rfl rfl ?_
  refine wq_iload_n (pc := 14) dJ3_newCapacity_14 rfl rfl ?_
  refine wq_isub (pc := 15) dJ3_newCapacity_15 ?_
  refine wq_istore (L' := [some (.ref x0), some (.int x1), some (.int y2), some (.int (x1 <<< (y3 &&& 31))), some (.int ((x1 <<< (y3 &&& 31)) - y2)), none]) (pc := 16) dJ3_newCapacity_16 (Nat.le_of_ble_eq_true rfl) rfl ?_
  refine wq_iload_n (pc := 18) dJ3_newCapacity_18 rfl rfl ?_
  refine wq_iload (pc := 19) dJ3_newCapacity_19 rfl ?_
  refine wq_iload_n (pc := 21) dJ3_newCapacity_21 rfl rfl ?_
  refine wq_iconst (pc := 22) dJ3_newCapacity_22 gsti2 ?_
  refine wq_aload_n (pc := 23) dJ3_newCapacity_23 rfl rfl ?_
  refine gfq397 (pc := 24) rfl dJ3_newCapacity_24 V (fun y4 V => ?_)
  refine wq_ishl (pc := 27) dJ3_newCapacity_27 ?_
  refine wq_iadd (pc := 28) dJ3_newCapacity_28 ?_
  refine clq424 (pc := 29) (As := [.int y2, .int ((x1 <<< (y3 &&& 31)) - y2), .int (y2 + ((2 : Int32) <<< (y4 &&& 31)))]) (st := []) rfl dJ3_newCapacity_29 rfl (Nat.le_of_ble_eq_true rfl) V (fun C6 S7 => wx_ki (fun y8 h5 V => ?_))
  refine wq_istore (L' := [some (.ref x0), some (.int x1), some (.int y2), some (.int (x1 <<< (y3 &&& 31))), some (.int ((x1 <<< (y3 &&& 31)) - y2)), some (.int y8)]) (pc := 32) dJ3_newCapacity_32 (Nat.le_of_ble_eq_true rfl) rfl ?_
  refine wq_iload (pc := 34) dJ3_newCapacity_34 rfl ?_
  refine wq_ldc (pc := 36) (v := (2147483647 : Int32)) q434 dJ3_newCapacity_36 ?_
  refine wq_icmp_ne (pc := 38) (tgt := 51) dJ3_newCapacity_38 rfl (fun c => ?_) (fun c => ?_)
  · have V := V.1 c
    refine wq_iload (pc := 51) dJ3_newCapacity_51 rfl ?_
    refine wq_aload_n (pc := 53) dJ3_newCapacity_53 rfl rfl ?_
    refine gfq397 (pc := 54) rfl dJ3_newCapacity_54 V (fun y9 V => ?_)
    refine wq_ishr (pc := 57) dJ3_newCapacity_57 ?_
    refine wq_iret (pc := 58) dJ3_newCapacity_58 rfl ⟨_, rfl, V⟩
  · have V := V.2 c
    exact V.elim
theorem vJ3_isLatin1_0 {G : wq_G} {l : Launch} {d C S : Nat} {K : Int32 → wq_H → Prop} {x0 : Nat} {h : wq_H} (V : ((1 : Int32) = 0 → K (0 : Int32) h) ∧ (¬ (1 : Int32) = 0 → wq_gI h x0 [(17, 1)] (fun y1 => (¬ y1 = 0 → K (0 : Int32) h) ∧ (y1 = 0 → K (1 : Int32) h)))) : wq_T G l d mJ3_isLatin1 (wq_qi K) 0 [some (.ref x0)] [] h C S := by
  refine wq_gets (pc := 0) (Cn := "java/lang/String") (n := "COMPACT_STRINGS") (ds := "Z") (v := .int (1 : Int32)) (by simp) q387 dJ3_isLatin1_0 ?_
  refine wq_if_eq (pc := 3) (tgt := 17) dJ3_isLatin1_3 rfl (fun c => ?_) (fun c => ?_)
  · have V := V.1 c
    refine wq_iconst (pc := 17) dJ3_isLatin1_17 gsti0 ?_
    refine wq_zret (pc := 18) dJ3_isLatin1_18 rfl gn_b0 ⟨_, rfl, V⟩
  · have V := V.2 c
    refine wq_aload_n (pc := 6) dJ3_isLatin1_6 rfl rfl ?_
    refine gfq397 (pc := 7) rfl dJ3_isLatin1_7 V (fun y1 V => ?_)
    refine wq_if_ne (pc := 10) (tgt := 17) dJ3_isLatin1_10 rfl (fun c => ?_) (fun c => ?_)
    · have V := V.1 c
      refine wq_iconst (pc := 17) dJ3_isLatin1_17 gsti0 ?_
      refine wq_zret (pc := 18) dJ3_isLatin1_18 rfl gn_b0 ⟨_, rfl, V⟩
    · have V := V.2 c
      refine wq_iconst (pc := 13) dJ3_isLatin1_13 gsti1 ?_
      refine wq_goto (pc := 14) (tgt := 18) dJ3_isLatin1_14 rfl ?_
      refine wq_zret (pc := 18) dJ3_isLatin1_18 rfl gn_b1 ⟨_, rfl, V⟩
theorem vJ3_getValue_0 {G : wq_G} {l : Launch} {d C S : Nat} {K : Option Nat → wq_H → Prop} {x0 : Nat} {h : wq_H} (V : wq_gR h x0 [(17, 0)] (fun a1 => K (some a1) h)) : wq_T G l d mJ3_getValue (wq_qq K) 0 [some (.ref x0)] [] h C S := by
  refine wq_aload_n (pc := 0) dJ3_getValue_0 rfl rfl ?_
  refine gfq396 (pc := 1) rfl dJ3_getValue_1 V (fun a1 V => ?_)
  refine wq_aret (r := (some a1)) (pc := 4) dJ3_getValue_4 rfl rfl ⟨_, rfl, V⟩
theorem vJ3_length_0 {G : wq_G} {l : Launch} {d C S : Nat} {K : Int32 → wq_H → Prop} {x0 : Nat} {h : wq_H} (V : wq_gI h x0 [(17, 3)] (fun y1 => K y1 h)) : wq_T G l d mJ3_length (wq_qi K) 0 [some (.ref x0)] [] h C S := by
  refine wq_aload_n (pc := 0) dJ3_length_0 rfl rfl ?_
  refine gfq399 (pc := 1) rfl dJ3_length_1 V (fun y1 V => ?_)
  refine wq_iret (pc := 4) dJ3_length_4 rfl ⟨_, rfl, V⟩
theorem vJ4_init_0 {G : wq_G} {l : Launch} {d C S : Nat} {K : wq_H → Prop} {x0 : Nat} {h : wq_H} (V : wq_cw G l d C S mJ3_init [.ref x0, .int (16 : Int32)] h (fun h1 C2 S3 => K h1)) : wq_T G l d mJ4_init (wq_qv K) 0 [some (.ref x0)] [] h C S := by
  refine wq_aload_n (pc := 0) dJ4_init_0 rfl rfl ?_
  refine wq_bipush (pc := 1) dJ4_init_1 gstb16 ?_
  refine clq383 (pc := 3) (As := [.int (16 : Int32)]) (st := []) rfl dJ4_init_3 rfl (Nat.le_of_ble_eq_true rfl) V (fun C2 S3 => wx_kv (fun h1 V => ?_))
  refine wq_vret (pc := 6) dJ4_init_6 rfl ⟨rfl, V⟩
theorem vJ4_append_0 {G : wq_G} {l : Launch} {d C S : Nat} {K : Option Nat → wq_H → Prop} {x0 : Nat} {x1 : Int32} {h : wq_H} (V : ∃ fs5 : List Value, h x0 = some (.inr (17, fs5)) ∧ (wq_cq G l d C S mJ3_append [.ref x0, .int x1] h (fun r4 h1 C2 S3 => K (some x0) h1))) : wq_T G l d mJ4_append (wq_qq K) 0 [some (.ref x0), some (.int x1)] [] h C S := by
  refine wq_aload_n (pc := 0) dJ4_append_0 rfl rfl ?_
  refine wq_iload_n (pc := 1) dJ4_append_1 rfl rfl ?_
  obtain ⟨fs5, w6, V⟩ := V
  refine clq413 (pc := 2) (As := [.int x1]) (st := []) rfl dJ4_append_2 rfl (Nat.le_of_ble_eq_true rfl) w6 V (fun C2 S3 => wx_kq (fun r4 h1 V => ?_))
  refine wq_pop (pc := 5) dJ4_append_5 (wq_cat1 _) ?_
  refine wq_aload_n (pc := 6) dJ4_append_6 rfl rfl ?_
  refine wq_aret (r := (some x0)) (pc := 7) dJ4_append_7 rfl rfl ⟨_, rfl, V⟩
theorem vJ4_toString_0 {G : wq_G} {l : Launch} {d C S : Nat} {K : Option Nat → wq_H → Prop} {x0 : Nat} {h : wq_H} (V : wq_no G h 18 [.null, .int 0, .int 0, .int 0] 4 C S (fun a1 h2 => wq_cw G l d (C - 1) (S - 4) mJ5_init [.ref a1, .ref x0] h2 (fun h3 C4 S5 => K (some a1) h3))) : wq_T G l d mJ4_toString (wq_qq K) 0 [some (.ref x0)] [] h C S := by
  refine nwq508 (pc := 0) rfl dJ4_toString_0 V (fun a1 h2 V => ?_)
  refine wq_dup (pc := 3) dJ4_toString_3 rfl ?_
  refine wq_aload_n (pc := 4) dJ4_toString_4 rfl rfl ?_
  refine clq510 (pc := 5) (As := [.ref x0]) (st := [.ref a1]) rfl dJ4_toString_5 rfl (Nat.le_of_ble_eq_true rfl) V (fun C4 S5 => wx_kv (fun h3 V => ?_))
  refine wq_aret (r := (some a1)) (pc := 8) dJ4_toString_8 rfl rfl ⟨_, rfl, V⟩
theorem vJ4_length_0 {G : wq_G} {l : Launch} {d C S : Nat} {K : Int32 → wq_H → Prop} {x0 : Nat} {h : wq_H} (V : ∃ fs5 : List Value, h x0 = some (.inr (17, fs5)) ∧ (wq_ci G l d C S mJ3_length [.ref x0] h (fun y4 h1 C2 S3 => K y4 h1))) : wq_T G l d mJ4_length (wq_qi K) 0 [some (.ref x0)] [] h C S := by
  refine wq_aload_n (pc := 0) dJ4_length_0 rfl rfl ?_
  obtain ⟨fs5, w6, V⟩ := V
  refine clq528 (pc := 1) (As := []) (st := []) rfl dJ4_length_1 rfl (Nat.le_of_ble_eq_true rfl) w6 V (fun C2 S3 => wx_ki (fun y4 h1 V => ?_))
  refine wq_iret (pc := 4) dJ4_length_4 rfl ⟨_, rfl, V⟩
theorem vJ5_checkIndex_0 {G : wq_G} {l : Launch} {d C S : Nat} {K : wq_H → Prop} {x0 : Int32} {x1 : Int32} {h : wq_H} (V : ∀ r1, (wq_ci G l d C S mJ11_checkIndex [.int x0, .int x1, va_rf r1] h (fun y5 h2 C3 S4 => K h2))) : wq_T G l d mJ5_checkIndex (wq_qv K) 0 [some (.int x0), some (.int x1)] [] h C S := by
  refine wq_iload_n (pc := 0) dJ5_checkIndex_0 rfl rfl ?_
  refine wq_iload_n (pc := 1) dJ5_checkIndex_1 rfl rfl ?_
  refine wq_getsQ (pc := 2) (Cn := "jdk/internal/util/Preconditions") (n := "SIOOBE_FORMATTER") (ds := "Ljava/util/function/BiFunction;") (by simp) q478 dJ5_checkIndex_2 (fun r1 => ?_)
  have V := V r1
  refine clq501 (pc := 5) (As := [.int x0, .int x1, va_rf r1]) (st := []) rfl dJ5_checkIndex_5 rfl (Nat.le_of_ble_eq_true rfl) V (fun C3 S4 => wx_ki (fun y5 h2 V => ?_))
  refine wq_pop (pc := 8) dJ5_checkIndex_8 rfl ?_
  refine wq_vret (pc := 9) dJ5_checkIndex_9 rfl ⟨rfl, V⟩
theorem vJ5_init_0 {G : wq_G} {l : Launch} {d C S : Nat} {K : wq_H → Prop} {x0 : Nat} {x1 : Nat} {h : wq_H} (V : wq_cw G l d C S mJ5_init_2 [.ref x0, .ref x1, va_rf none] h (fun h1 C2 S3 => K h1)) : wq_T G l d mJ5_init (wq_qv K) 0 [some (.ref x0), some (.ref x1)] [] h C S := by
  refine wq_aload_n (pc := 0) dJ5_init_0 rfl rfl ?_
  refine wq_aload_n (pc := 1) dJ5_init_1 rfl rfl ?_
  refine wq_aconst (pc := 2) dJ5_init_2 ?_
  refine clq513 (pc := 3) (As := [.ref x1, va_rf none]) (st := []) rfl dJ5_init_3 rfl (Nat.le_of_ble_eq_true rfl) V (fun C2 S3 => wx_kv (fun h1 V => ?_))
  refine wq_vret (pc := 6) dJ5_init_6 rfl ⟨rfl, V⟩
theorem vJ5_init_2_0 {G : wq_G} {l : Launch} {d C S : Nat} {K : wq_H → Prop} (hd1 : 1 ≤ d) {x0 : Nat} {x1 : Nat} {x2 : Nat} {h : wq_H} (V : ∃ fs5 : List Value, h x1 = some (.inr (17, fs5)) ∧ (wq_cq G l d C S mJ3_getValue [.ref x1] h (fun r4 h1 C2 S3 => ∃ fs11 : List Value, h1 x1 = some (.inr (17, fs11)) ∧ (wq_ci G l d C2 S3 mJ4_length [.ref x1] h1 (fun y10 h7 C8 S9 => ∃ fs17 : List Value, h7 x1 = some (.inr (17, fs17)) ∧ (wq_ci G l d C8 S9 mJ3_isLatin1 [.ref x1] h7 (fun y16 h13 C14 S15 => (y16 = 0 → ((1 : Int32) = 0 → wq_pf G h13 x0 [(18, 1)] (.int (1 : Int32)) (fun h19 => wq_cq G l d C14 S15 mJ9_copyOfRange [va_rf r4, .int (0 : Int32), .int (y10 <<< ((1 : Int32) &&& 31))] h19 (fun r23 h20 C21 S22 => wq_pf G h20 x0 [(18, 0)] (va_rf r23) (fun h24 => K h24)))) ∧ (¬ (1 : Int32) = 0 → wq_gI h13 x1 [(17, 2)] (fun y25 => (y25 = 0 → wq_pf G h13 x0 [(18, 1)] (.int (1 : Int32)) (fun h26 => wq_cq G l d C14 S15 mJ9_copyOfRange [va_rf r4, .int (0 : Int32), .int (y10 <<< ((1 : Int32) &&& 31))] h26 (fun r30 h27 C28 S29 => wq_pf G h27 x0 [(18, 0)] (va_rf r30) (fun h31 => K h31)))) ∧ (¬ y25 = 0 → wq_cq G l d C14 S15 mJ6_compress [va_rf r4, .int (0 : Int32), .int y10] h13 (fun r35 h32 C33 S34 => wq_pf G h32 x0 [(18, 0)] (va_rf r35) (fun h36 => wq_gR h36 x0 [(18, 0)] (fun a37 => wq_ci G l d C33 S34 mJ6_coderFromArrayLen [.ref a37, .int y10] h36 (fun y41 h38 C39 S40 => (narrow .byte (.int y41) = .int y41 ∧ fits .byte (.int y41) = true) ∧ (wq_pf G h38 x0 [(18, 1)] (.int y41) (fun h42 => K h42)))))))))) ∧ (¬ y16 = 0 → wq_pf G h13 x0 [(18, 1)] (.int (0 : Int32)) (fun h44 => wq_cq G l d C14 S15 mJ9_copyOfRange [va_rf r4, .int (0 : Int32), .int y10] h44 (fun r48 h45 C46 S47 => wq_pf G h45 x0 [(18, 0)] (va_rf r48) (fun h49 => K h49))))))))))) : wq_T G l d mJ5_init_2 (wq_qv K) 0 [some (.ref x0), some (.ref x1), some (.ref x2), none, none] [] h C S := by
  refine wq_aload_n (pc := 0) dJ5_init_2_0 rfl rfl ?_
  refine wq_objInit (pc := 1) q516 q157 q158 dJ5_init_2_1 (Nat.le_of_ble_eq_true rfl) hd1 ?_
  refine wq_aload_n (pc := 4) dJ5_init_2_4 rfl rfl ?_
  obtain ⟨fs5, w6, V⟩ := V
  refine clq517 (pc := 5) (As := []) (st := []) rfl dJ5_init_2_5 rfl (Nat.le_of_ble_eq_true rfl) w6 V (fun C2 S3 => wx_kq (fun r4 h1 V => ?_))
  refine wq_astore_nQ (L' := [some (.ref x0), some (.ref x1), some (.ref x2), some (va_rf r4), none]) (pc := 8) dJ5_init_2_8 rfl (Nat.le_of_ble_eq_true rfl) rfl ?_
  refine wq_aload_n (pc := 9) dJ5_init_2_9 rfl rfl ?_
  obtain ⟨fs11, w12, V⟩ := V
  refine clq522 (pc := 10) (As := []) (st := []) rfl dJ5_init_2_10 rfl (Nat.le_of_ble_eq_true rfl) w12 V (fun C8 S9 => wx_ki (fun y10 h7 V => ?_))
  refine wq_istore (L' := [some (.ref x0), some (.ref x1), some (.ref x2), some (va_rf r4), some (.int y10)]) (pc := 13) dJ5_init_2_13 (Nat.le_of_ble_eq_true rfl) (by simp [wq_s1, wq_cl, wq_cat1]) ?_
  refine wq_aload_n (pc := 15) dJ5_init_2_15 rfl rfl ?_
  obtain ⟨fs17, w18, V⟩ := V
  refine clq530 (pc := 16) (As := []) (st := []) rfl dJ5_init_2_16 rfl (Nat.le_of_ble_eq_true rfl) w18 V (fun C14 S15 => wx_ki (fun y16 h13 V => ?_))
  refine wq_if_eq (pc := 19) (tgt := 41) dJ5_init_2_19 rfl (fun c => ?_) (fun c => ?_)
  · have V := V.1 c
    refine wq_gets (pc := 41) (Cn := "java/lang/String") (n := "COMPACT_STRINGS") (ds := "Z") (v := .int (1 : Int32)) (by simp) q540 dJ5_init_2_41 ?_
    refine wq_if_eq (pc := 44) (tgt := 79) dJ5_init_2_44 rfl (fun c => ?_) (fun c => ?_)
    · have V := V.1 c
      refine wq_aload_n (pc := 79) dJ5_init_2_79 rfl rfl ?_
      refine wq_iconst (pc := 80) dJ5_init_2_80 gsti1 ?_
      refine pfq555 (pc := 81) rfl rfl dJ5_init_2_81 ⟨by decide, by decide⟩ V (fun h19 V => ?_)
      refine wq_aload_n (pc := 84) dJ5_init_2_84 rfl rfl ?_
      refine wq_aload_nQ (pc := 85) dJ5_init_2_85 rfl rfl ?_
      refine wq_iconst (pc := 86) dJ5_init_2_86 gsti0 ?_
      refine wq_iload (pc := 87) dJ5_init_2_87 rfl ?_
      refine wq_iconst (pc := 89) dJ5_init_2_89 gsti1 ?_
      refine wq_ishl (pc := 90) dJ5_init_2_90 ?_
      refine clq531 (pc := 91) (As := [va_rf r4, .int (0 : Int32), .int (y10 <<< ((1 : Int32) &&& 31))]) (st := [.ref x0]) rfl dJ5_init_2_91 rfl (Nat.le_of_ble_eq_true rfl) V (fun C21 S22 => wx_kq (fun r23 h20 V => ?_))
      refine pfq554 (pc := 94) rfl rfl dJ5_init_2_94 (wq_nfr rfl r23) V (fun h24 V => ?_)
      refine wq_vret (pc := 97) dJ5_init_2_97 rfl ⟨rfl, V⟩
    · have V := V.2 c
      refine wq_aload_n (pc := 47) dJ5_init_2_47 rfl rfl ?_
      refine gfq398 (pc := 48) rfl dJ5_init_2_48 V (fun y25 V => ?_)
      refine wq_if_eq (pc := 51) (tgt := 79) dJ5_init_2_51 rfl (fun c => ?_) (fun c => ?_)
      · have V := V.1 c
        refine wq_aload_n (pc := 79) dJ5_init_2_79 rfl rfl ?_
        refine wq_iconst (pc := 80) dJ5_init_2_80 gsti1 ?_
        refine pfq555 (pc := 81) rfl rfl dJ5_init_2_81 ⟨by decide, by decide⟩ V (fun h26 V => ?_)
        refine wq_aload_n (pc := 84) dJ5_init_2_84 rfl rfl ?_
        refine wq_aload_nQ (pc := 85) dJ5_init_2_85 rfl rfl ?_
        refine wq_iconst (pc := 86) dJ5_init_2_86 gsti0 ?_
        refine wq_iload (pc := 87) dJ5_init_2_87 rfl ?_
        refine wq_iconst (pc := 89) dJ5_init_2_89 gsti1 ?_
        refine wq_ishl (pc := 90) dJ5_init_2_90 ?_
        refine clq531 (pc := 91) (As := [va_rf r4, .int (0 : Int32), .int (y10 <<< ((1 : Int32) &&& 31))]) (st := [.ref x0]) rfl dJ5_init_2_91 rfl (Nat.le_of_ble_eq_true rfl) V (fun C28 S29 => wx_kq (fun r30 h27 V => ?_))
        refine pfq554 (pc := 94) rfl rfl dJ5_init_2_94 (wq_nfr rfl r30) V (fun h31 V => ?_)
        refine wq_vret (pc := 97) dJ5_init_2_97 rfl ⟨rfl, V⟩
      · have V := V.2 c
        refine wq_aload_n (pc := 54) dJ5_init_2_54 rfl rfl ?_
        refine wq_aload_nQ (pc := 55) dJ5_init_2_55 rfl rfl ?_
        refine wq_iconst (pc := 56) dJ5_init_2_56 gsti0 ?_
        refine wq_iload (pc := 57) dJ5_init_2_57 rfl ?_
        refine clq541 (pc := 59) (As := [va_rf r4, .int (0 : Int32), .int y10]) (st := [.ref x0]) rfl dJ5_init_2_59 rfl (Nat.le_of_ble_eq_true rfl) V (fun C33 S34 => wx_kq (fun r35 h32 V => ?_))
        refine pfq554 (pc := 62) rfl rfl dJ5_init_2_62 (wq_nfr rfl r35) V (fun h36 V => ?_)
        refine wq_aload_n (pc := 65) dJ5_init_2_65 rfl rfl ?_
        refine wq_aload_n (pc := 66) dJ5_init_2_66 rfl rfl ?_
        refine gfq554 (pc := 67) rfl dJ5_init_2_67 V (fun a37 V => ?_)
        refine wq_iload (pc := 70) dJ5_init_2_70 rfl ?_
        refine clq551 (pc := 72) (As := [.ref a37, .int y10]) (st := [.ref x0]) rfl dJ5_init_2_72 rfl (Nat.le_of_ble_eq_true rfl) V (fun C39 S40 => wx_ki (fun y41 h38 V => ?_))
        obtain ⟨w43, V⟩ := V
        refine pfq555 (pc := 75) rfl rfl dJ5_init_2_75 w43 V (fun h42 V => ?_)
        refine wq_vret (pc := 78) dJ5_init_2_78 rfl ⟨rfl, V⟩
  · have V := V.2 c
    refine wq_aload_n (pc := 22) dJ5_init_2_22 rfl rfl ?_
    refine wq_iconst (pc := 23) dJ5_init_2_23 gsti0 ?_
    refine pfq555 (pc := 24) rfl rfl dJ5_init_2_24 ⟨by decide, by decide⟩ V (fun h44 V => ?_)
    refine wq_aload_n (pc := 27) dJ5_init_2_27 rfl rfl ?_
    refine wq_aload_nQ (pc := 28) dJ5_init_2_28 rfl rfl ?_
    refine wq_iconst (pc := 29) dJ5_init_2_29 gsti0 ?_
    refine wq_iload (pc := 30) dJ5_init_2_30 rfl ?_
    refine clq531 (pc := 32) (As := [va_rf r4, .int (0 : Int32), .int y10]) (st := [.ref x0]) rfl dJ5_init_2_32 rfl (Nat.le_of_ble_eq_true rfl) V (fun C46 S47 => wx_kq (fun r48 h45 V => ?_))
    refine pfq554 (pc := 35) rfl rfl dJ5_init_2_35 (wq_nfr rfl r48) V (fun h49 V => ?_)
    refine wq_goto (pc := 38) (tgt := 97) dJ5_init_2_38 rfl ?_
    refine wq_vret (pc := 97) dJ5_init_2_97 rfl ⟨rfl, V⟩
theorem vJ5_hashCode_0 {G : wq_G} {l : Launch} {d C S : Nat} {K : Int32 → wq_H → Prop} {x0 : Nat} {h : wq_H} (V : wq_gI h x0 [(18, 2)] (fun y1 => (¬ y1 = 0 → K y1 h) ∧ (y1 = 0 → wq_gI h x0 [(18, 3)] (fun y2 => (¬ y2 = 0 → K y1 h) ∧ (y2 = 0 → ∃ fs7 : List Value, h x0 = some (.inr (18, fs7)) ∧ (wq_ci G l d C S mJ5_isLatin1 [.ref x0] h (fun y6 h3 C4 S5 => (y6 = 0 → wq_gR h3 x0 [(18, 0)] (fun a9 => wq_ci G l d C4 S5 mJ6_hashCode [.ref a9] h3 (fun y13 h10 C11 S12 => (¬ y13 = 0 → wq_pf G h10 x0 [(18, 2)] (.int y13) (fun h14 => K y13 h14)) ∧ (y13 = 0 → wq_pf G h10 x0 [(18, 3)] (.int (1 : Int32)) (fun h15 => K y13 h15))))) ∧ (¬ y6 = 0 → wq_gR h3 x0 [(18, 0)] (fun a16 => wq_ci G l d C4 S5 mJ10_hashCode [.ref a16] h3 (fun y20 h17 C18 S19 => (¬ y20 = 0 → wq_pf G h17 x0 [(18, 2)] (.int y20) (fun h21 => K y20 h21)) ∧ (y20 = 0 → wq_pf G h17 x0 [(18, 3)] (.int (1 : Int32)) (fun h22 => K y20 h22)))))))))))) : wq_T G l d mJ5_hashCode (wq_qi K) 0 [some (.ref x0), none] [] h C S := by
  refine wq_aload_n (pc := 0) dJ5_hashCode_0 rfl rfl ?_
  refine gfq556 (pc := 1) rfl dJ5_hashCode_1 V (fun y1 V => ?_)
  refine wq_istore_n (L' := [some (.ref x0), some (.int y1)]) (pc := 4) dJ5_hashCode_4 rfl (Nat.le_of_ble_eq_true rfl) rfl ?_
  refine wq_iload_n (pc := 5) dJ5_hashCode_5 rfl rfl ?_
  refine wq_if_ne (pc := 6) (tgt := 58) dJ5_hashCode_6 rfl (fun c => ?_) (fun c => ?_)
  · have V := V.1 c
    refine wq_iload_n (pc := 58) dJ5_hashCode_58 rfl rfl ?_
    refine wq_iret (pc := 59) dJ5_hashCode_59 rfl ⟨_, rfl, V⟩
  · have V := V.2 c
    refine wq_aload_n (pc := 9) dJ5_hashCode_9 rfl rfl ?_
    refine gfq557 (pc := 10) rfl dJ5_hashCode_10 V (fun y2 V => ?_)
    refine wq_if_ne (pc := 13) (tgt := 58) dJ5_hashCode_13 rfl (fun c => ?_) (fun c => ?_)
    · have V := V.1 c
      refine wq_iload_n (pc := 58) dJ5_hashCode_58 rfl rfl ?_
      refine wq_iret (pc := 59) dJ5_hashCode_59 rfl ⟨_, rfl, V⟩
    · have V := V.2 c
      refine wq_aload_n (pc := 16) dJ5_hashCode_16 rfl rfl ?_
      obtain ⟨fs7, w8, V⟩ := V
      refine clq604 (pc := 17) (As := []) (st := []) rfl dJ5_hashCode_17 rfl (Nat.le_of_ble_eq_true rfl) w8 V (fun C4 S5 => wx_ki (fun y6 h3 V => ?_))
      refine wq_if_eq (pc := 20) (tgt := 33) dJ5_hashCode_20 rfl (fun c => ?_) (fun c => ?_)
      · have V := V.1 c
        refine wq_aload_n (pc := 33) dJ5_hashCode_33 rfl rfl ?_
        refine gfq554 (pc := 34) rfl dJ5_hashCode_34 V (fun a9 V => ?_)
        refine clq649 (pc := 37) (As := [.ref a9]) (st := []) rfl dJ5_hashCode_37 rfl (Nat.le_of_ble_eq_true rfl) V (fun C11 S12 => wx_ki (fun y13 h10 V => ?_))
        refine wq_istore_n (L' := [some (.ref x0), some (.int y13)]) (pc := 40) dJ5_hashCode_40 rfl (Nat.le_of_ble_eq_true rfl) rfl ?_
        refine wq_iload_n (pc := 41) dJ5_hashCode_41 rfl rfl ?_
        refine wq_if_ne (pc := 42) (tgt := 53) dJ5_hashCode_42 rfl (fun c => ?_) (fun c => ?_)
        · have V := V.1 c
          refine wq_aload_n (pc := 53) dJ5_hashCode_53 rfl rfl ?_
          refine wq_iload_n (pc := 54) dJ5_hashCode_54 rfl rfl ?_
          refine pfq556 (pc := 55) rfl dJ5_hashCode_55 ⟨rfl, rfl⟩ V (fun h14 V => ?_)
          refine wq_iload_n (pc := 58) dJ5_hashCode_58 rfl rfl ?_
          refine wq_iret (pc := 59) dJ5_hashCode_59 rfl ⟨_, rfl, V⟩
        · have V := V.2 c
          refine wq_aload_n (pc := 45) dJ5_hashCode_45 rfl rfl ?_
          refine wq_iconst (pc := 46) dJ5_hashCode_46 gsti1 ?_
          refine pfq557 (pc := 47) rfl dJ5_hashCode_47 ⟨by decide, by decide⟩ V (fun h15 V => ?_)
          refine wq_goto (pc := 50) (tgt := 58) dJ5_hashCode_50 rfl ?_
          refine wq_iload_n (pc := 58) dJ5_hashCode_58 rfl rfl ?_
          refine wq_iret (pc := 59) dJ5_hashCode_59 rfl ⟨_, rfl, V⟩
      · have V := V.2 c
        refine wq_aload_n (pc := 23) dJ5_hashCode_23 rfl rfl ?_
        refine gfq554 (pc := 24) rfl dJ5_hashCode_24 V (fun a16 V => ?_)
        refine clq608 (pc := 27) (As := [.ref a16]) (st := []) rfl dJ5_hashCode_27 rfl (Nat.le_of_ble_eq_true rfl) V (fun C18 S19 => wx_ki (fun y20 h17 V => ?_))
        refine wq_goto (pc := 30) (tgt := 40) dJ5_hashCode_30 rfl ?_
        refine wq_istore_n (L' := [some (.ref x0), some (.int y20)]) (pc := 40) dJ5_hashCode_40 rfl (Nat.le_of_ble_eq_true rfl) rfl ?_
        refine wq_iload_n (pc := 41) dJ5_hashCode_41 rfl rfl ?_
        refine wq_if_ne (pc := 42) (tgt := 53) dJ5_hashCode_42 rfl (fun c => ?_) (fun c => ?_)
        · have V := V.1 c
          refine wq_aload_n (pc := 53) dJ5_hashCode_53 rfl rfl ?_
          refine wq_iload_n (pc := 54) dJ5_hashCode_54 rfl rfl ?_
          refine pfq556 (pc := 55) rfl dJ5_hashCode_55 ⟨rfl, rfl⟩ V (fun h21 V => ?_)
          refine wq_iload_n (pc := 58) dJ5_hashCode_58 rfl rfl ?_
          refine wq_iret (pc := 59) dJ5_hashCode_59 rfl ⟨_, rfl, V⟩
        · have V := V.2 c
          refine wq_aload_n (pc := 45) dJ5_hashCode_45 rfl rfl ?_
          refine wq_iconst (pc := 46) dJ5_hashCode_46 gsti1 ?_
          refine pfq557 (pc := 47) rfl dJ5_hashCode_47 ⟨by decide, by decide⟩ V (fun h22 V => ?_)
          refine wq_goto (pc := 50) (tgt := 58) dJ5_hashCode_50 rfl ?_
          refine wq_iload_n (pc := 58) dJ5_hashCode_58 rfl rfl ?_
          refine wq_iret (pc := 59) dJ5_hashCode_59 rfl ⟨_, rfl, V⟩
theorem vJ5_isLatin1_0 {G : wq_G} {l : Launch} {d C S : Nat} {K : Int32 → wq_H → Prop} {x0 : Nat} {h : wq_H} (V : ((1 : Int32) = 0 → K (0 : Int32) h) ∧ (¬ (1 : Int32) = 0 → wq_gI h x0 [(18, 1)] (fun y1 => (¬ y1 = 0 → K (0 : Int32) h) ∧ (y1 = 0 → K (1 : Int32) h)))) : wq_T G l d mJ5_isLatin1 (wq_qi K) 0 [some (.ref x0)] [] h C S := by
  refine wq_gets (pc := 0) (Cn := "java/lang/String") (n := "COMPACT_STRINGS") (ds := "Z") (v := .int (1 : Int32)) (by simp) q540 dJ5_isLatin1_0 ?_
  refine wq_if_eq (pc := 3) (tgt := 17) dJ5_isLatin1_3 rfl (fun c => ?_) (fun c => ?_)
  · have V := V.1 c
    refine wq_iconst (pc := 17) dJ5_isLatin1_17 gsti0 ?_
    refine wq_zret (pc := 18) dJ5_isLatin1_18 rfl gn_b0 ⟨_, rfl, V⟩
  · have V := V.2 c
    refine wq_aload_n (pc := 6) dJ5_isLatin1_6 rfl rfl ?_
    refine gfq555 (pc := 7) rfl dJ5_isLatin1_7 V (fun y1 V => ?_)
    refine wq_if_ne (pc := 10) (tgt := 17) dJ5_isLatin1_10 rfl (fun c => ?_) (fun c => ?_)
    · have V := V.1 c
      refine wq_iconst (pc := 17) dJ5_isLatin1_17 gsti0 ?_
      refine wq_zret (pc := 18) dJ5_isLatin1_18 rfl gn_b0 ⟨_, rfl, V⟩
    · have V := V.2 c
      refine wq_iconst (pc := 13) dJ5_isLatin1_13 gsti1 ?_
      refine wq_goto (pc := 14) (tgt := 18) dJ5_isLatin1_14 rfl ?_
      refine wq_zret (pc := 18) dJ5_isLatin1_18 rfl gn_b1 ⟨_, rfl, V⟩
theorem vJ5_equals_0 {G : wq_G} {l : Launch} {d C S : Nat} {K : Int32 → wq_H → Prop} {x0 : Nat} {x1 : Nat} {h : wq_H} (V : (¬ (some x0) = (some x1) → ∃ fs1 : List Value, h x1 = some (.inr (18, fs1)) ∧ (((1 : Int32) = 0 → K (0 : Int32) h) ∧ (¬ (1 : Int32) = 0 → wq_ct h (some x1) [18] (fun a3 => ((1 : Int32) = 0 → wq_gR h x0 [(18, 0)] (fun a4 => wq_gR h a3 [(18, 0)] (fun a5 => wq_ci G l d C S mJ10_equals [.ref a4, .ref a5] h (fun y9 h6 C7 S8 => (y9 = 0 → K (0 : Int32) h6) ∧ (¬ y9 = 0 → K (1 : Int32) h6))))) ∧ (¬ (1 : Int32) = 0 → wq_gI h x0 [(18, 1)] (fun y10 => wq_gI h a3 [(18, 1)] (fun y11 => (¬ y10 = y11 → K (0 : Int32) h) ∧ (y10 = y11 → wq_gR h x0 [(18, 0)] (fun a12 => wq_gR h a3 [(18, 0)] (fun a13 => wq_ci G l d C S mJ10_equals [.ref a12, .ref a13] h (fun y17 h14 C15 S16 => (y17 = 0 → K (0 : Int32) h14) ∧ (¬ y17 = 0 → K (1 : Int32) h14)))))))))))) ∧ ((some x0) = (some x1) → K (1 : Int32) h)) : wq_T G l d mJ5_equals (wq_qi K) 0 [some (.ref x0), some (.ref x1), none] [] h C S := by
  refine wq_aload_n (pc := 0) dJ5_equals_0 rfl rfl ?_
  refine wq_aload_n (pc := 1) dJ5_equals_1 rfl rfl ?_
  refine wq_acmp_ne (x := (some x0)) (y := (some x1)) (pc := 2) (tgt := 7) dJ5_equals_2 rfl (fun c => ?_) (fun c => ?_)
  · have V := V.1 c
    refine wq_aload_n (pc := 7) dJ5_equals_7 rfl rfl ?_
    obtain ⟨fs1, w2, V⟩ := V
    refine wx_inst (nm := "java/lang/String") (q := (RJ5, TJ5, 4)) (pc := 8) q658 rfl rfl dJ5_equals_8 w2 ?_
    refine wq_if_eq (pc := 11) (tgt := 54) dJ5_equals_11 rfl (fun c => ?_) (fun c => ?_)
    · have V := V.1 c
      refine wq_iconst (pc := 54) dJ5_equals_54 gsti0 ?_
      refine wq_zret (pc := 55) dJ5_equals_55 rfl gn_b0 ⟨_, rfl, V⟩
    · have V := V.2 c
      refine wq_aload_n (pc := 14) dJ5_equals_14 rfl rfl ?_
      refine ctq658 (r := (some x1)) (pc := 15) rfl dJ5_equals_15 V (fun a3 V => ?_)
      refine wq_astore_n (L' := [some (.ref x0), some (.ref x1), some (.ref a3)]) (pc := 18) dJ5_equals_18 rfl (Nat.le_of_ble_eq_true rfl) rfl ?_
      refine wq_gets (pc := 19) (Cn := "java/lang/String") (n := "COMPACT_STRINGS") (ds := "Z") (v := .int (1 : Int32)) (by simp) q540 dJ5_equals_19 ?_
      refine wq_if_eq (pc := 22) (tgt := 36) dJ5_equals_22 rfl (fun c => ?_) (fun c => ?_)
      · have V := V.1 c
        refine wq_aload_n (pc := 36) dJ5_equals_36 rfl rfl ?_
        refine gfq554 (pc := 37) rfl dJ5_equals_37 V (fun a4 V => ?_)
        refine wq_aload_n (pc := 40) dJ5_equals_40 rfl rfl ?_
        refine gfq554 (pc := 41) rfl dJ5_equals_41 V (fun a5 V => ?_)
        refine clq659 (pc := 44) (As := [.ref a4, .ref a5]) (st := []) rfl dJ5_equals_44 rfl (Nat.le_of_ble_eq_true rfl) V (fun C7 S8 => wx_ki (fun y9 h6 V => ?_))
        refine wq_if_eq (pc := 47) (tgt := 54) dJ5_equals_47 rfl (fun c => ?_) (fun c => ?_)
        · have V := V.1 c
          refine wq_iconst (pc := 54) dJ5_equals_54 gsti0 ?_
          refine wq_zret (pc := 55) dJ5_equals_55 rfl gn_b0 ⟨_, rfl, V⟩
        · have V := V.2 c
          refine wq_iconst (pc := 50) dJ5_equals_50 gsti1 ?_
          refine wq_goto (pc := 51) (tgt := 55) dJ5_equals_51 rfl ?_
          refine wq_zret (pc := 55) dJ5_equals_55 rfl gn_b1 ⟨_, rfl, V⟩
      · have V := V.2 c
        refine wq_aload_n (pc := 25) dJ5_equals_25 rfl rfl ?_
        refine gfq555 (pc := 26) rfl dJ5_equals_26 V (fun y10 V => ?_)
        refine wq_aload_n (pc := 29) dJ5_equals_29 rfl rfl ?_
        refine gfq555 (pc := 30) rfl dJ5_equals_30 V (fun y11 V => ?_)
        refine wq_icmp_ne (pc := 33) (tgt := 54) dJ5_equals_33 rfl (fun c => ?_) (fun c => ?_)
        · have V := V.1 c
          refine wq_iconst (pc := 54) dJ5_equals_54 gsti0 ?_
          refine wq_zret (pc := 55) dJ5_equals_55 rfl gn_b0 ⟨_, rfl, V⟩
        · have V := V.2 c
          refine wq_aload_n (pc := 36) dJ5_equals_36 rfl rfl ?_
          refine gfq554 (pc := 37) rfl dJ5_equals_37 V (fun a12 V => ?_)
          refine wq_aload_n (pc := 40) dJ5_equals_40 rfl rfl ?_
          refine gfq554 (pc := 41) rfl dJ5_equals_41 V (fun a13 V => ?_)
          refine clq659 (pc := 44) (As := [.ref a12, .ref a13]) (st := []) rfl dJ5_equals_44 rfl (Nat.le_of_ble_eq_true rfl) V (fun C15 S16 => wx_ki (fun y17 h14 V => ?_))
          refine wq_if_eq (pc := 47) (tgt := 54) dJ5_equals_47 rfl (fun c => ?_) (fun c => ?_)
          · have V := V.1 c
            refine wq_iconst (pc := 54) dJ5_equals_54 gsti0 ?_
            refine wq_zret (pc := 55) dJ5_equals_55 rfl gn_b0 ⟨_, rfl, V⟩
          · have V := V.2 c
            refine wq_iconst (pc := 50) dJ5_equals_50 gsti1 ?_
            refine wq_goto (pc := 51) (tgt := 55) dJ5_equals_51 rfl ?_
            refine wq_zret (pc := 55) dJ5_equals_55 rfl gn_b1 ⟨_, rfl, V⟩
  · have V := V.2 c
    refine wq_iconst (pc := 5) dJ5_equals_5 gsti1 ?_
    refine wq_zret (pc := 6) dJ5_equals_6 rfl gn_b1 ⟨_, rfl, V⟩
theorem vJ5_length_0 {G : wq_G} {l : Launch} {d C S : Nat} {K : Int32 → wq_H → Prop} {x0 : Nat} {h : wq_H} (V : wq_gR h x0 [(18, 0)] (fun a1 => wq_ag G h a1 (fun y2 => ∃ fs7 : List Value, h x0 = some (.inr (18, fs7)) ∧ (wq_ci G l d C S mJ5_coder [.ref x0] h (fun y6 h3 C4 S5 => K (y2 >>> (y6 &&& 31)) h3))))) : wq_T G l d mJ5_length (wq_qi K) 0 [some (.ref x0)] [] h C S := by
  refine wq_aload_n (pc := 0) dJ5_length_0 rfl rfl ?_
  refine gfq554 (pc := 1) rfl dJ5_length_1 V (fun a1 V => ?_)
  refine wx_al (pc := 4) dJ5_length_4 V (fun y2 V => ?_)
  refine wq_aload_n (pc := 5) dJ5_length_5 rfl rfl ?_
  obtain ⟨fs7, w8, V⟩ := V
  refine clq1878 (pc := 6) (As := []) (st := [.int y2]) rfl dJ5_length_6 rfl (Nat.le_of_ble_eq_true rfl) w8 V (fun C4 S5 => wx_ki (fun y6 h3 V => ?_))
  refine wq_ishr (pc := 9) dJ5_length_9 ?_
  refine wq_iret (pc := 10) dJ5_length_10 rfl ⟨_, rfl, V⟩
theorem vJ5_coder_0 {G : wq_G} {l : Launch} {d C S : Nat} {K : Int32 → wq_H → Prop} {x0 : Nat} {h : wq_H} (V : ((1 : Int32) = 0 → narrow .byte (.int (1 : Int32)) = .int (1 : Int32) ∧ K (1 : Int32) h) ∧ (¬ (1 : Int32) = 0 → wq_gI h x0 [(18, 1)] (fun y1 => narrow .byte (.int y1) = .int y1 ∧ K y1 h))) : wq_T G l d mJ5_coder (wq_qi K) 0 [some (.ref x0)] [] h C S := by
  refine wq_gets (pc := 0) (Cn := "java/lang/String") (n := "COMPACT_STRINGS") (ds := "Z") (v := .int (1 : Int32)) (by simp) q540 dJ5_coder_0 ?_
  refine wq_if_eq (pc := 3) (tgt := 13) dJ5_coder_3 rfl (fun c => ?_) (fun c => ?_)
  · have V := V.1 c
    refine wq_iconst (pc := 13) dJ5_coder_13 gsti1 ?_
    refine wq_zret (pc := 14) dJ5_coder_14 rfl V.1 ⟨_, rfl, V.2⟩
  · have V := V.2 c
    refine wq_aload_n (pc := 6) dJ5_coder_6 rfl rfl ?_
    refine gfq555 (pc := 7) rfl dJ5_coder_7 V (fun y1 V => ?_)
    refine wq_goto (pc := 10) (tgt := 14) dJ5_coder_10 rfl ?_
    refine wq_zret (pc := 14) dJ5_coder_14 rfl V.1 ⟨_, rfl, V.2⟩
theorem vJ5_charAt_0 {G : wq_G} {l : Launch} {d C S : Nat} {K : Int32 → wq_H → Prop} {x0 : Nat} {x1 : Int32} {h : wq_H} (V : ∃ fs5 : List Value, h x0 = some (.inr (18, fs5)) ∧ (wq_ci G l d C S mJ5_isLatin1 [.ref x0] h (fun y4 h1 C2 S3 => (y4 = 0 → wq_gR h1 x0 [(18, 0)] (fun a7 => wq_ci G l d C2 S3 mJ6_charAt [.ref a7, .int x1] h1 (fun y11 h8 C9 S10 => narrow .char (.int y11) = .int y11 ∧ K y11 h8))) ∧ (¬ y4 = 0 → wq_gR h1 x0 [(18, 0)] (fun a12 => wq_ci G l d C2 S3 mJ10_charAt [.ref a12, .int x1] h1 (fun y16 h13 C14 S15 => narrow .char (.int y16) = .int y16 ∧ K y16 h13)))))) : wq_T G l d mJ5_charAt (wq_qi K) 0 [some (.ref x0), some (.int x1)] [] h C S := by
  refine wq_aload_n (pc := 0) dJ5_charAt_0 rfl rfl ?_
  obtain ⟨fs5, w6, V⟩ := V
  refine clq604 (pc := 1) (As := []) (st := []) rfl dJ5_charAt_1 rfl (Nat.le_of_ble_eq_true rfl) w6 V (fun C2 S3 => wx_ki (fun y4 h1 V => ?_))
  refine wq_if_eq (pc := 4) (tgt := 16) dJ5_charAt_4 rfl (fun c => ?_) (fun c => ?_)
  · have V := V.1 c
    refine wq_aload_n (pc := 16) dJ5_charAt_16 rfl rfl ?_
    refine gfq554 (pc := 17) rfl dJ5_charAt_17 V (fun a7 V => ?_)
    refine wq_iload_n (pc := 20) dJ5_charAt_20 rfl rfl ?_
    refine clq1890 (pc := 21) (As := [.ref a7, .int x1]) (st := []) rfl dJ5_charAt_21 rfl (Nat.le_of_ble_eq_true rfl) V (fun C9 S10 => wx_ki (fun y11 h8 V => ?_))
    refine wq_zret (pc := 24) dJ5_charAt_24 rfl V.1 ⟨_, rfl, V.2⟩
  · have V := V.2 c
    refine wq_aload_n (pc := 7) dJ5_charAt_7 rfl rfl ?_
    refine gfq554 (pc := 8) rfl dJ5_charAt_8 V (fun a12 V => ?_)
    refine wq_iload_n (pc := 11) dJ5_charAt_11 rfl rfl ?_
    refine clq1886 (pc := 12) (As := [.ref a12, .int x1]) (st := []) rfl dJ5_charAt_12 rfl (Nat.le_of_ble_eq_true rfl) V (fun C14 S15 => wx_ki (fun y16 h13 V => ?_))
    refine wq_zret (pc := 15) dJ5_charAt_15 rfl V.1 ⟨_, rfl, V.2⟩
theorem vJ7_newLength_0 {G : wq_G} {l : Launch} {d C S : Nat} {K : Int32 → wq_H → Prop} {x0 : Int32} {x1 : Int32} {x2 : Int32} {h : wq_H} (V : wq_ci G l d C S mJ8_max [.int x1, .int x2] h (fun y4 h1 C2 S3 => ((x0 + y4) ≤ (0 : Int32) → wq_ci G l d C2 S3 mJ7_hugeLength [.int x0, .int x1] h1 (fun y8 h5 C6 S7 => K y8 h5)) ∧ (¬ (x0 + y4) ≤ (0 : Int32) → ((2147483639 : Int32) < (x0 + y4) → wq_ci G l d C2 S3 mJ7_hugeLength [.int x0, .int x1] h1 (fun y12 h9 C10 S11 => K y12 h9)) ∧ (¬ (2147483639 : Int32) < (x0 + y4) → K (x0 + y4) h1)))) : wq_T G l d mJ7_newLength (wq_qi K) 0 [some (.int x0), some (.int x1), some (.int x2), none] [] h C S := by
  refine wq_iload_n (pc := 0) dJ7_newLength_0 rfl rfl ?_
  refine wq_iload_n (pc := 1) dJ7_newLength_1 rfl rfl ?_
  refine wq_iload_n (pc := 2) dJ7_newLength_2 rfl rfl ?_
  refine clq427 (pc := 3) (As := [.int x1, .int x2]) (st := [.int x0]) rfl dJ7_newLength_3 rfl (Nat.le_of_ble_eq_true rfl) V (fun C2 S3 => wx_ki (fun y4 h1 V => ?_))
  refine wq_iadd (pc := 6) dJ7_newLength_6 ?_
  refine wq_istore_n (L' := [some (.int x0), some (.int x1), some (.int x2), some (.int (x0 + y4))]) (pc := 7) dJ7_newLength_7 rfl (Nat.le_of_ble_eq_true rfl) rfl ?_
  refine wq_iconst (pc := 8) dJ7_newLength_8 gsti0 ?_
  refine wq_iload_n (pc := 9) dJ7_newLength_9 rfl rfl ?_
  refine wq_icmp_ge (pc := 10) (tgt := 21) dJ7_newLength_10 rfl (fun c => ?_) (fun c => ?_)
  · have V := V.1 c
    refine wq_iload_n (pc := 21) dJ7_newLength_21 rfl rfl ?_
    refine wq_iload_n (pc := 22) dJ7_newLength_22 rfl rfl ?_
    refine clq431 (pc := 23) (As := [.int x0, .int x1]) (st := []) rfl dJ7_newLength_23 rfl (Nat.le_of_ble_eq_true rfl) V (fun C6 S7 => wx_ki (fun y8 h5 V => ?_))
    refine wq_iret (pc := 26) dJ7_newLength_26 rfl ⟨_, rfl, V⟩
  · have V := V.2 c
    refine wq_iload_n (pc := 13) dJ7_newLength_13 rfl rfl ?_
    refine wq_ldc (pc := 14) (v := (2147483639 : Int32)) q430 dJ7_newLength_14 ?_
    refine wq_icmp_gt (pc := 16) (tgt := 21) dJ7_newLength_16 rfl (fun c => ?_) (fun c => ?_)
    · have V := V.1 c
      refine wq_iload_n (pc := 21) dJ7_newLength_21 rfl rfl ?_
      refine wq_iload_n (pc := 22) dJ7_newLength_22 rfl rfl ?_
      refine clq431 (pc := 23) (As := [.int x0, .int x1]) (st := []) rfl dJ7_newLength_23 rfl (Nat.le_of_ble_eq_true rfl) V (fun C10 S11 => wx_ki (fun y12 h9 V => ?_))
      refine wq_iret (pc := 26) dJ7_newLength_26 rfl ⟨_, rfl, V⟩
    · have V := V.2 c
      refine wq_iload_n (pc := 19) dJ7_newLength_19 rfl rfl ?_
      refine wq_iret (pc := 20) dJ7_newLength_20 rfl ⟨_, rfl, V⟩
theorem vJ7_vectorizedHashCode_0 {G : wq_G} {l : Launch} {d C S : Nat} {K : Int32 → wq_H → Prop} {x0 : Nat} {x1 : Int32} {x2 : Int32} {x3 : Int32} {x4 : Int32} {h : wq_H} (V : (x4.toInt < 4 ∨ 10 < x4.toInt → False) ∧ (x4.toInt = 4 → wq_ctA G h (some x0) 2 (fun a1 => wq_ci G l d C S mJ7_signedHashCode [.int x3, .ref a1, .int x1, .int x2] h (fun y5 h2 C3 S4 => K y5 h2))) ∧ (x4.toInt = 5 → False) ∧ (x4.toInt = 6 → False) ∧ (x4.toInt = 7 → False) ∧ (x4.toInt = 8 → wq_ctA G h (some x0) 2 (fun a6 => wq_ci G l d C S mJ7_hashCode_2 [.int x3, .ref a6, .int x1, .int x2] h (fun y10 h7 C8 S9 => K y10 h7))) ∧ (x4.toInt = 9 → False) ∧ (x4.toInt = 10 → False)) : wq_T G l d mJ7_vectorizedHashCode (wq_qi K) 0 [some (.ref x0), some (.int x1), some (.int x2), some (.int x3), some (.int x4)] [] h C S := by
  refine wq_iload (pc := 0) dJ7_vectorizedHashCode_0 rfl ?_
  by_cases c : x4.toInt < 4 ∨ 10 < x4.toInt
  · refine wq_tableOut (pc := 2) (tgt := 129) dJ7_vectorizedHashCode_2 c rfl ?_
    have V := V.1 c
    exact V.elim
  by_cases c0 : x4.toInt = 4
  · refine wq_tableIn (pc := 2) (off := 42) (tgt := 44) dJ7_vectorizedHashCode_2 (by omega) (by omega) (by rw [c0]; rfl) rfl ?_
    have V := V.2.1 c0
    refine wq_iload_n (pc := 44) dJ7_vectorizedHashCode_44 rfl rfl ?_
    refine wq_aload_n (pc := 45) dJ7_vectorizedHashCode_45 rfl rfl ?_
    refine wx_ctB (r := (some x0)) (pc := 46) q614 dJ7_vectorizedHashCode_46 V (fun a1 V => ?_)
    refine wq_iload_n (pc := 49) dJ7_vectorizedHashCode_49 rfl rfl ?_
    refine wq_iload_n (pc := 50) dJ7_vectorizedHashCode_50 rfl rfl ?_
    refine clq615 (pc := 51) (As := [.int x3, .ref a1, .int x1, .int x2]) (st := []) rfl dJ7_vectorizedHashCode_51 rfl (Nat.le_of_ble_eq_true rfl) V (fun C3 S4 => wx_ki (fun y5 h2 V => ?_))
    refine wq_goto (pc := 54) (tgt := 157) dJ7_vectorizedHashCode_54 rfl ?_
    refine wq_iret (pc := 157) dJ7_vectorizedHashCode_157 rfl ⟨_, rfl, V⟩
  by_cases c1 : x4.toInt = 5
  · refine wq_tableIn (pc := 2) (off := 55) (tgt := 57) dJ7_vectorizedHashCode_2 (by omega) (by omega) (by rw [c1]; rfl) rfl ?_
    have V := V.2.2.1 c1
    refine wq_aload_n (pc := 57) dJ7_vectorizedHashCode_57 rfl rfl ?_
    exact V.elim
  by_cases c2 : x4.toInt = 6
  · refine wq_tableIn (pc := 2) (off := 127) (tgt := 129) dJ7_vectorizedHashCode_2 (by omega) (by omega) (by rw [c2]; rfl) rfl ?_
    have V := V.2.2.2.1 c2
    exact V.elim
  by_cases c3 : x4.toInt = 7
  · refine wq_tableIn (pc := 2) (off := 127) (tgt := 129) dJ7_vectorizedHashCode_2 (by omega) (by omega) (by rw [c3]; rfl) rfl ?_
    have V := V.2.2.2.2.1 c3
    exact V.elim
  by_cases c4 : x4.toInt = 8
  · refine wq_tableIn (pc := 2) (off := 88) (tgt := 90) dJ7_vectorizedHashCode_2 (by omega) (by omega) (by rw [c4]; rfl) rfl ?_
    have V := V.2.2.2.2.2.1 c4
    refine wq_iload_n (pc := 90) dJ7_vectorizedHashCode_90 rfl rfl ?_
    refine wq_aload_n (pc := 91) dJ7_vectorizedHashCode_91 rfl rfl ?_
    refine wx_ctB (r := (some x0)) (pc := 92) q614 dJ7_vectorizedHashCode_92 V (fun a6 V => ?_)
    refine wq_iload_n (pc := 95) dJ7_vectorizedHashCode_95 rfl rfl ?_
    refine wq_iload_n (pc := 96) dJ7_vectorizedHashCode_96 rfl rfl ?_
    refine clq638 (pc := 97) (As := [.int x3, .ref a6, .int x1, .int x2]) (st := []) rfl dJ7_vectorizedHashCode_97 rfl (Nat.le_of_ble_eq_true rfl) V (fun C8 S9 => wx_ki (fun y10 h7 V => ?_))
    refine wq_goto (pc := 100) (tgt := 157) dJ7_vectorizedHashCode_100 rfl ?_
    refine wq_iret (pc := 157) dJ7_vectorizedHashCode_157 rfl ⟨_, rfl, V⟩
  by_cases c5 : x4.toInt = 9
  · refine wq_tableIn (pc := 2) (off := 101) (tgt := 103) dJ7_vectorizedHashCode_2 (by omega) (by omega) (by rw [c5]; rfl) rfl ?_
    have V := V.2.2.2.2.2.2.1 c5
    refine wq_iload_n (pc := 103) dJ7_vectorizedHashCode_103 rfl rfl ?_
    refine wq_aload_n (pc := 104) dJ7_vectorizedHashCode_104 rfl rfl ?_
    exact V.elim
  have c6 : x4.toInt = 10 := by omega
  · refine wq_tableIn (pc := 2) (off := 114) (tgt := 116) dJ7_vectorizedHashCode_2 (by omega) (by omega) (by rw [c6]; rfl) rfl ?_
    have V := V.2.2.2.2.2.2.2 c6
    refine wq_iload_n (pc := 116) dJ7_vectorizedHashCode_116 rfl rfl ?_
    refine wq_aload_n (pc := 117) dJ7_vectorizedHashCode_117 rfl rfl ?_
    exact V.elim
theorem vJ7_signedHashCode_0 {G : wq_G} {l : Launch} {d C S : Nat} {K : Int32 → wq_H → Prop} {x0 : Int32} {x1 : Nat} {x2 : Int32} {x3 : Int32} {h : wq_H} (V : wq_T G l d mJ7_signedHashCode (wq_qi K) 8 [some (.int x0), some (.ref x1), none, none, some (.int (x2 + x3)), some (.int x2)] [] h C S) : wq_T G l d mJ7_signedHashCode (wq_qi K) 0 [some (.int x0), some (.ref x1), some (.int x2), some (.int x3), none, none] [] h C S := by
  refine wq_iload_n (pc := 0) dJ7_signedHashCode_0 rfl rfl ?_
  refine wq_iload_n (pc := 1) dJ7_signedHashCode_1 rfl rfl ?_
  refine wq_iadd (pc := 2) dJ7_signedHashCode_2 ?_
  refine wq_istore (L' := [some (.int x0), some (.ref x1), some (.int x2), some (.int x3), some (.int (x2 + x3)), none]) (pc := 3) dJ7_signedHashCode_3 (Nat.le_of_ble_eq_true rfl) rfl ?_
  refine wq_iload_n (pc := 5) dJ7_signedHashCode_5 rfl rfl ?_
  refine wq_istore (L' := [some (.int x0), some (.ref x1), some (.int x2), some (.int x3), some (.int (x2 + x3)), some (.int x2)]) (pc := 6) dJ7_signedHashCode_6 (Nat.le_of_ble_eq_true rfl) rfl ?_
  exact wq_T.less V ⟨rfl, ⟨rfl, ⟨rfl, ⟨rfl, trivial⟩⟩⟩⟩
theorem vJ7_signedHashCode_8 {G : wq_G} {l : Launch} {d C S : Nat} {K : Int32 → wq_H → Prop} {x0 : Int32} {x1 : Nat} {x4 : Int32} {x5 : Int32} {h : wq_H} (V : (x4 ≤ x5 → K x0 h) ∧ (¬ x4 ≤ x5 → wq_ab G h x1 x5 (fun y1 => wq_T G l d mJ7_signedHashCode (wq_qi K) 8 [some (.int (((31 : Int32) * x0) + (y1 &&& (255 : Int32)))), some (.ref x1), none, none, some (.int x4), some (.int (x5 + (1 : Int32)))] [] h C S))) : wq_T G l d mJ7_signedHashCode (wq_qi K) 8 [some (.int x0), some (.ref x1), none, none, some (.int x4), some (.int x5)] [] h C S := by
  refine wq_iload (pc := 8) dJ7_signedHashCode_8 rfl ?_
  refine wq_iload (pc := 10) dJ7_signedHashCode_10 rfl ?_
  refine wq_icmp_ge (pc := 12) (tgt := 35) dJ7_signedHashCode_12 rfl (fun c => ?_) (fun c => ?_)
  · have V := V.1 c
    refine wq_iload_n (pc := 35) dJ7_signedHashCode_35 rfl rfl ?_
    refine wq_iret (pc := 36) dJ7_signedHashCode_36 rfl ⟨_, rfl, V⟩
  · have V := V.2 c
    refine wq_bipush (pc := 15) dJ7_signedHashCode_15 gstb31 ?_
    refine wq_iload_n (pc := 17) dJ7_signedHashCode_17 rfl rfl ?_
    refine wq_imul (pc := 18) dJ7_signedHashCode_18 ?_
    refine wq_aload_n (pc := 19) dJ7_signedHashCode_19 rfl rfl ?_
    refine wq_iload (pc := 20) dJ7_signedHashCode_20 rfl ?_
    refine wx_ab (pc := 22) dJ7_signedHashCode_22 V (fun y1 V => ?_)
    refine wq_sipush (pc := 23) dJ7_signedHashCode_23 gsts255 ?_
    refine wq_iand (pc := 26) dJ7_signedHashCode_26 ?_
    refine wq_iadd (pc := 27) dJ7_signedHashCode_27 ?_
    refine wq_istore_n (L' := [some (.int (((31 : Int32) * x0) + (y1 &&& (255 : Int32)))), some (.ref x1), none, none, some (.int x4), some (.int x5)]) (pc := 28) dJ7_signedHashCode_28 rfl (Nat.le_of_ble_eq_true rfl) rfl ?_
    refine wq_iinc (L' := [some (.int (((31 : Int32) * x0) + (y1 &&& (255 : Int32)))), some (.ref x1), none, none, some (.int x4), some (.int (x5 + (1 : Int32)))]) (pc := 29) dJ7_signedHashCode_29 rfl (by rw [gsti1]) (Nat.le_of_ble_eq_true rfl) rfl ?_
    refine wq_goto (pc := 32) (tgt := 8) dJ7_signedHashCode_32 rfl ?_
    exact wq_T.less V ⟨rfl, ⟨rfl, ⟨rfl, ⟨rfl, trivial⟩⟩⟩⟩
theorem vJ7_hashCode_2_0 {G : wq_G} {l : Launch} {d C S : Nat} {K : Int32 → wq_H → Prop} {x0 : Int32} {x1 : Nat} {x2 : Int32} {x3 : Int32} {h : wq_H} (V : wq_T G l d mJ7_hashCode_2 (wq_qi K) 8 [some (.int x0), some (.ref x1), none, none, some (.int (x2 + x3)), some (.int x2)] [] h C S) : wq_T G l d mJ7_hashCode_2 (wq_qi K) 0 [some (.int x0), some (.ref x1), some (.int x2), some (.int x3), none, none] [] h C S := by
  refine wq_iload_n (pc := 0) dJ7_hashCode_2_0 rfl rfl ?_
  refine wq_iload_n (pc := 1) dJ7_hashCode_2_1 rfl rfl ?_
  refine wq_iadd (pc := 2) dJ7_hashCode_2_2 ?_
  refine wq_istore (L' := [some (.int x0), some (.ref x1), some (.int x2), some (.int x3), some (.int (x2 + x3)), none]) (pc := 3) dJ7_hashCode_2_3 (Nat.le_of_ble_eq_true rfl) rfl ?_
  refine wq_iload_n (pc := 5) dJ7_hashCode_2_5 rfl rfl ?_
  refine wq_istore (L' := [some (.int x0), some (.ref x1), some (.int x2), some (.int x3), some (.int (x2 + x3)), some (.int x2)]) (pc := 6) dJ7_hashCode_2_6 (Nat.le_of_ble_eq_true rfl) rfl ?_
  exact wq_T.less V ⟨rfl, ⟨rfl, ⟨rfl, ⟨rfl, trivial⟩⟩⟩⟩
theorem vJ7_hashCode_2_8 {G : wq_G} {l : Launch} {d C S : Nat} {K : Int32 → wq_H → Prop} {x0 : Int32} {x1 : Nat} {x4 : Int32} {x5 : Int32} {h : wq_H} (V : (x4 ≤ x5 → K x0 h) ∧ (¬ x4 ≤ x5 → wq_ab G h x1 x5 (fun y1 => wq_T G l d mJ7_hashCode_2 (wq_qi K) 8 [some (.int (((31 : Int32) * x0) + y1)), some (.ref x1), none, none, some (.int x4), some (.int (x5 + (1 : Int32)))] [] h C S))) : wq_T G l d mJ7_hashCode_2 (wq_qi K) 8 [some (.int x0), some (.ref x1), none, none, some (.int x4), some (.int x5)] [] h C S := by
  refine wq_iload (pc := 8) dJ7_hashCode_2_8 rfl ?_
  refine wq_iload (pc := 10) dJ7_hashCode_2_10 rfl ?_
  refine wq_icmp_ge (pc := 12) (tgt := 31) dJ7_hashCode_2_12 rfl (fun c => ?_) (fun c => ?_)
  · have V := V.1 c
    refine wq_iload_n (pc := 31) dJ7_hashCode_2_31 rfl rfl ?_
    refine wq_iret (pc := 32) dJ7_hashCode_2_32 rfl ⟨_, rfl, V⟩
  · have V := V.2 c
    refine wq_bipush (pc := 15) dJ7_hashCode_2_15 gstb31 ?_
    refine wq_iload_n (pc := 17) dJ7_hashCode_2_17 rfl rfl ?_
    refine wq_imul (pc := 18) dJ7_hashCode_2_18 ?_
    refine wq_aload_n (pc := 19) dJ7_hashCode_2_19 rfl rfl ?_
    refine wq_iload (pc := 20) dJ7_hashCode_2_20 rfl ?_
    refine wx_ab (pc := 22) dJ7_hashCode_2_22 V (fun y1 V => ?_)
    refine wq_iadd (pc := 23) dJ7_hashCode_2_23 ?_
    refine wq_istore_n (L' := [some (.int (((31 : Int32) * x0) + y1)), some (.ref x1), none, none, some (.int x4), some (.int x5)]) (pc := 24) dJ7_hashCode_2_24 rfl (Nat.le_of_ble_eq_true rfl) rfl ?_
    refine wq_iinc (L' := [some (.int (((31 : Int32) * x0) + y1)), some (.ref x1), none, none, some (.int x4), some (.int (x5 + (1 : Int32)))]) (pc := 25) dJ7_hashCode_2_25 rfl (by rw [gsti1]) (Nat.le_of_ble_eq_true rfl) rfl ?_
    refine wq_goto (pc := 28) (tgt := 8) dJ7_hashCode_2_28 rfl ?_
    exact wq_T.less V ⟨rfl, ⟨rfl, ⟨rfl, ⟨rfl, trivial⟩⟩⟩⟩
theorem vJ8_max_0 {G : wq_G} {l : Launch} {d C S : Nat} {K : Int32 → wq_H → Prop} {x0 : Int32} {x1 : Int32} {h : wq_H} (V : (x0 < x1 → K x1 h) ∧ (¬ x0 < x1 → K x0 h)) : wq_T G l d mJ8_max (wq_qi K) 0 [some (.int x0), some (.int x1)] [] h C S := by
  refine wq_iload_n (pc := 0) dJ8_max_0 rfl rfl ?_
  refine wq_iload_n (pc := 1) dJ8_max_1 rfl rfl ?_
  refine wq_icmp_lt (pc := 2) (tgt := 9) dJ8_max_2 rfl (fun c => ?_) (fun c => ?_)
  · have V := V.1 c
    refine wq_iload_n (pc := 9) dJ8_max_9 rfl rfl ?_
    refine wq_iret (pc := 10) dJ8_max_10 rfl ⟨_, rfl, V⟩
  · have V := V.2 c
    refine wq_iload_n (pc := 5) dJ8_max_5 rfl rfl ?_
    refine wq_goto (pc := 6) (tgt := 10) dJ8_max_6 rfl ?_
    refine wq_iret (pc := 10) dJ8_max_10 rfl ⟨_, rfl, V⟩
theorem vJ8_min_0 {G : wq_G} {l : Launch} {d C S : Nat} {K : Int32 → wq_H → Prop} {x0 : Int32} {x1 : Int32} {h : wq_H} (V : (x1 < x0 → K x1 h) ∧ (¬ x1 < x0 → K x0 h)) : wq_T G l d mJ8_min (wq_qi K) 0 [some (.int x0), some (.int x1)] [] h C S := by
  refine wq_iload_n (pc := 0) dJ8_min_0 rfl rfl ?_
  refine wq_iload_n (pc := 1) dJ8_min_1 rfl rfl ?_
  refine wq_icmp_gt (pc := 2) (tgt := 9) dJ8_min_2 rfl (fun c => ?_) (fun c => ?_)
  · have V := V.1 c
    refine wq_iload_n (pc := 9) dJ8_min_9 rfl rfl ?_
    refine wq_iret (pc := 10) dJ8_min_10 rfl ⟨_, rfl, V⟩
  · have V := V.2 c
    refine wq_iload_n (pc := 5) dJ8_min_5 rfl rfl ?_
    refine wq_goto (pc := 6) (tgt := 10) dJ8_min_6 rfl ?_
    refine wq_iret (pc := 10) dJ8_min_10 rfl ⟨_, rfl, V⟩
theorem vJ8_abs_0 {G : wq_G} {l : Launch} {d C S : Nat} {K : Int32 → wq_H → Prop} {x0 : Int32} {h : wq_H} (V : (0 ≤ x0 → K x0 h) ∧ (¬ 0 ≤ x0 → K (-x0) h)) : wq_T G l d mJ8_abs (wq_qi K) 0 [some (.int x0)] [] h C S := by
  refine wq_iload_n (pc := 0) dJ8_abs_0 rfl rfl ?_
  refine wq_if_ge (pc := 1) (tgt := 9) dJ8_abs_1 rfl (fun c => ?_) (fun c => ?_)
  · have V := V.1 c
    refine wq_iload_n (pc := 9) dJ8_abs_9 rfl rfl ?_
    refine wq_iret (pc := 10) dJ8_abs_10 rfl ⟨_, rfl, V⟩
  · have V := V.2 c
    refine wq_iload_n (pc := 4) dJ8_abs_4 rfl rfl ?_
    refine wq_ineg (pc := 5) dJ8_abs_5 ?_
    refine wq_goto (pc := 6) (tgt := 10) dJ8_abs_6 rfl ?_
    refine wq_iret (pc := 10) dJ8_abs_10 rfl ⟨_, rfl, V⟩
theorem vJ9_copyOf_0 {G : wq_G} {l : Launch} {d C S : Nat} {K : Option Nat → wq_H → Prop} (hd1 : 1 ≤ d) {x0 : Nat} {x1 : Int32} {h : wq_H} (V : wq_ag G h x0 (fun y1 => (¬ x1 = y1 → wq_na G h (.inl (G.2.2.1 2, x1.toNatClampNeg, .inl (fun _ => 0))) x1 x1.toNatClampNeg C S (fun a2 h3 => wq_ag G h3 x0 (fun y4 => wq_ci G l d (C - 1) (S - x1.toNatClampNeg) mJ8_min [.int y4, .int x1] h3 (fun y8 h5 C6 S7 => wq_cpB G h5 x0 (0 : Int32) a2 (0 : Int32) y8 (fun h9 => K (some a2) h9))))) ∧ (x1 = y1 → False))) : wq_T G l d mJ9_copyOf (wq_qq K) 0 [some (.ref x0), some (.int x1), none] [] h C S := by
  refine wq_iload_n (pc := 0) dJ9_copyOf_0 rfl rfl ?_
  refine wq_aload_n (pc := 1) dJ9_copyOf_1 rfl rfl ?_
  refine wx_al (pc := 2) dJ9_copyOf_2 V (fun y1 V => ?_)
  refine wq_icmp_ne (pc := 3) (tgt := 14) dJ9_copyOf_3 rfl (fun c => ?_) (fun c => ?_)
  · have V := V.1 c
    refine wq_iload_n (pc := 14) dJ9_copyOf_14 rfl rfl ?_
    refine wx_nB (pc := 15) q185 dJ9_copyOf_15 V (fun a2 h3 V => ?_)
    refine wq_astore_n (L' := [some (.ref x0), some (.int x1), some (.ref a2)]) (pc := 17) dJ9_copyOf_17 rfl (Nat.le_of_ble_eq_true rfl) rfl ?_
    refine wq_aload_n (pc := 18) dJ9_copyOf_18 rfl rfl ?_
    refine wq_iconst (pc := 19) dJ9_copyOf_19 gsti0 ?_
    refine wq_aload_n (pc := 20) dJ9_copyOf_20 rfl rfl ?_
    refine wq_iconst (pc := 21) dJ9_copyOf_21 gsti0 ?_
    refine wq_aload_n (pc := 22) dJ9_copyOf_22 rfl rfl ?_
    refine wx_al (pc := 23) dJ9_copyOf_23 V (fun y4 V => ?_)
    refine wq_iload_n (pc := 24) dJ9_copyOf_24 rfl rfl ?_
    refine clq445 (pc := 25) (As := [.int y4, .int x1]) (st := [.int (0 : Int32), .ref a2, .int (0 : Int32), .ref x0]) rfl dJ9_copyOf_25 rfl (Nat.le_of_ble_eq_true rfl) V (fun C6 S7 => wx_ki (fun y8 h5 V => ?_))
    refine wx_cpB (pc := 28) (by exact q448) dJ9_copyOf_28 (Nat.le_of_ble_eq_true rfl) hd1 V (fun h9 V => ?_)
    refine wq_aload_n (pc := 31) dJ9_copyOf_31 rfl rfl ?_
    refine wq_aret (r := (some a2)) (pc := 32) dJ9_copyOf_32 rfl rfl ⟨_, rfl, V⟩
  · have V := V.2 c
    refine wq_aload_n (pc := 6) dJ9_copyOf_6 rfl rfl ?_
    exact V.elim
theorem vJ9_copyOfRange_0 {G : wq_G} {l : Launch} {d C S : Nat} {K : Option Nat → wq_H → Prop} {x0 : Nat} {x1 : Int32} {x2 : Int32} {h : wq_H} (V : (¬ x1 = 0 → wq_cq G l d C S mJ9_copyOfRangeByte [.ref x0, .int x1, .int x2] h (fun r4 h1 C2 S3 => K r4 h1)) ∧ (x1 = 0 → wq_ag G h x0 (fun y5 => (x2 = y5 → False) ∧ (¬ x2 = y5 → wq_cq G l d C S mJ9_copyOfRangeByte [.ref x0, .int x1, .int x2] h (fun r9 h6 C7 S8 => K r9 h6))))) : wq_T G l d mJ9_copyOfRange (wq_qq K) 0 [some (.ref x0), some (.int x1), some (.int x2)] [] h C S := by
  refine wq_iload_n (pc := 0) dJ9_copyOfRange_0 rfl rfl ?_
  refine wq_if_ne (pc := 1) (tgt := 10) dJ9_copyOfRange_1 rfl (fun c => ?_) (fun c => ?_)
  · have V := V.1 c
    refine wq_aload_n (pc := 10) dJ9_copyOfRange_10 rfl rfl ?_
    refine wq_iload_n (pc := 11) dJ9_copyOfRange_11 rfl rfl ?_
    refine wq_iload_n (pc := 12) dJ9_copyOfRange_12 rfl rfl ?_
    refine clq534 (pc := 13) (As := [.ref x0, .int x1, .int x2]) (st := []) rfl dJ9_copyOfRange_13 rfl (Nat.le_of_ble_eq_true rfl) V (fun C2 S3 => wx_kq (fun r4 h1 V => ?_))
    refine wq_aret (r := r4) (pc := 16) dJ9_copyOfRange_16 rfl rfl ⟨_, rfl, V⟩
  · have V := V.2 c
    refine wq_iload_n (pc := 4) dJ9_copyOfRange_4 rfl rfl ?_
    refine wq_aload_n (pc := 5) dJ9_copyOfRange_5 rfl rfl ?_
    refine wx_al (pc := 6) dJ9_copyOfRange_6 V (fun y5 V => ?_)
    refine wq_icmp_eq (pc := 7) (tgt := 17) dJ9_copyOfRange_7 rfl (fun c => ?_) (fun c => ?_)
    · have V := V.1 c
      refine wq_aload_n (pc := 17) dJ9_copyOfRange_17 rfl rfl ?_
      exact V.elim
    · have V := V.2 c
      refine wq_aload_n (pc := 10) dJ9_copyOfRange_10 rfl rfl ?_
      refine wq_iload_n (pc := 11) dJ9_copyOfRange_11 rfl rfl ?_
      refine wq_iload_n (pc := 12) dJ9_copyOfRange_12 rfl rfl ?_
      refine clq534 (pc := 13) (As := [.ref x0, .int x1, .int x2]) (st := []) rfl dJ9_copyOfRange_13 rfl (Nat.le_of_ble_eq_true rfl) V (fun C7 S8 => wx_kq (fun r9 h6 V => ?_))
      refine wq_aret (r := r9) (pc := 16) dJ9_copyOfRange_16 rfl rfl ⟨_, rfl, V⟩
theorem vJ9_copyOfRangeByte_0 {G : wq_G} {l : Launch} {d C S : Nat} {K : Option Nat → wq_H → Prop} (hd1 : 1 ≤ d) {x0 : Nat} {x1 : Int32} {x2 : Int32} {h : wq_H} (V : wq_cw G l d C S mJ9_checkLength [.int x1, .int x2] h (fun h1 C2 S3 => wq_na G h1 (.inl (G.2.2.1 2, (x2 - x1).toNatClampNeg, .inl (fun _ => 0))) (x2 - x1) ((x2 - x1).toNatClampNeg) C2 S3 (fun a4 h5 => wq_ag G h5 x0 (fun y6 => wq_ci G l d (C2 - 1) (S3 - (x2 - x1).toNatClampNeg) mJ8_min [.int (y6 - x1), .int (x2 - x1)] h5 (fun y10 h7 C8 S9 => wq_cpB G h7 x0 x1 a4 (0 : Int32) y10 (fun h11 => K (some a4) h11)))))) : wq_T G l d mJ9_copyOfRangeByte (wq_qq K) 0 [some (.ref x0), some (.int x1), some (.int x2), none, none] [] h C S := by
  refine wq_iload_n (pc := 0) dJ9_copyOfRangeByte_0 rfl rfl ?_
  refine wq_iload_n (pc := 1) dJ9_copyOfRangeByte_1 rfl rfl ?_
  refine clq537 (pc := 2) (As := [.int x1, .int x2]) (st := []) rfl dJ9_copyOfRangeByte_2 rfl (Nat.le_of_ble_eq_true rfl) V (fun C2 S3 => wx_kv (fun h1 V => ?_))
  refine wq_iload_n (pc := 5) dJ9_copyOfRangeByte_5 rfl rfl ?_
  refine wq_iload_n (pc := 6) dJ9_copyOfRangeByte_6 rfl rfl ?_
  refine wq_isub (pc := 7) dJ9_copyOfRangeByte_7 ?_
  refine wq_istore_n (L' := [some (.ref x0), some (.int x1), some (.int x2), some (.int (x2 - x1)), none]) (pc := 8) dJ9_copyOfRangeByte_8 rfl (Nat.le_of_ble_eq_true rfl) rfl ?_
  refine wq_iload_n (pc := 9) dJ9_copyOfRangeByte_9 rfl rfl ?_
  refine wx_nB (pc := 10) q185 dJ9_copyOfRangeByte_10 V (fun a4 h5 V => ?_)
  refine wq_astore (L' := [some (.ref x0), some (.int x1), some (.int x2), some (.int (x2 - x1)), some (.ref a4)]) (pc := 12) dJ9_copyOfRangeByte_12 (Nat.le_of_ble_eq_true rfl) rfl ?_
  refine wq_aload_n (pc := 14) dJ9_copyOfRangeByte_14 rfl rfl ?_
  refine wq_iload_n (pc := 15) dJ9_copyOfRangeByte_15 rfl rfl ?_
  refine wq_aload (pc := 16) dJ9_copyOfRangeByte_16 rfl ?_
  refine wq_iconst (pc := 18) dJ9_copyOfRangeByte_18 gsti0 ?_
  refine wq_aload_n (pc := 19) dJ9_copyOfRangeByte_19 rfl rfl ?_
  refine wx_al (pc := 20) dJ9_copyOfRangeByte_20 V (fun y6 V => ?_)
  refine wq_iload_n (pc := 21) dJ9_copyOfRangeByte_21 rfl rfl ?_
  refine wq_isub (pc := 22) dJ9_copyOfRangeByte_22 ?_
  refine wq_iload_n (pc := 23) dJ9_copyOfRangeByte_23 rfl rfl ?_
  refine clq445 (pc := 24) (As := [.int (y6 - x1), .int (x2 - x1)]) (st := [.int (0 : Int32), .ref a4, .int x1, .ref x0]) rfl dJ9_copyOfRangeByte_24 rfl (Nat.le_of_ble_eq_true rfl) V (fun C8 S9 => wx_ki (fun y10 h7 V => ?_))
  refine wx_cpB (pc := 27) (by exact q448) dJ9_copyOfRangeByte_27 (Nat.le_of_ble_eq_true rfl) hd1 V (fun h11 V => ?_)
  refine wq_aload (pc := 30) dJ9_copyOfRangeByte_30 rfl ?_
  refine wq_aret (r := (some a4)) (pc := 32) dJ9_copyOfRangeByte_32 rfl rfl ⟨_, rfl, V⟩
theorem vJ9_checkLength_0 {G : wq_G} {l : Launch} {d C S : Nat} {K : wq_H → Prop} {x0 : Int32} {x1 : Int32} {h : wq_H} (V : (x0 ≤ x1 → K h) ∧ (¬ x0 ≤ x1 → False)) : wq_T G l d mJ9_checkLength (wq_qv K) 0 [some (.int x0), some (.int x1)] [] h C S := by
  refine wq_iload_n (pc := 0) dJ9_checkLength_0 rfl rfl ?_
  refine wq_iload_n (pc := 1) dJ9_checkLength_1 rfl rfl ?_
  refine wq_icmp_ge (pc := 2) (tgt := 37) dJ9_checkLength_2 rfl (fun c => ?_) (fun c => ?_)
  · have V := V.1 c
    refine wq_vret (pc := 37) dJ9_checkLength_37 rfl ⟨rfl, V⟩
  · have V := V.2 c
    exact V.elim
theorem vJ9_copyOf_2_0 {G : wq_G} {l : Launch} {d C S : Nat} {K : Option Nat → wq_H → Prop} (hd1 : 1 ≤ d) {x0 : Nat} {x1 : Int32} {h : wq_H} (V : ∃ xa1 : vp_A, (G.1 ≤ x0 ∧ h x0 = some (.inl (G.2.2.1 3, xa1))) ∧ (wq_cq G l d C S mJ9_copyOf_3 [.ref x0, .int x1, .ref (G.2.2.2.2 2)] h (fun r6 h3 C4 S5 => K r6 h3))) : wq_T G l d mJ9_copyOf_2 (wq_qq K) 0 [some (.ref x0), some (.int x1)] [] h C S := by
  refine wq_aload_n (pc := 0) dJ9_copyOf_2_0 rfl rfl ?_
  refine wq_iload_n (pc := 1) dJ9_copyOf_2_1 rfl rfl ?_
  refine wq_aload_n (pc := 2) dJ9_copyOf_2_2 rfl rfl ?_
  obtain ⟨xa1, w2, V⟩ := V
  refine wx_getC (pc := 3) q759 dJ9_copyOf_2_3 (Nat.le_of_ble_eq_true rfl) hd1 w2.1 w2.2 ?_
  refine clq785 (pc := 6) (As := [.ref x0, .int x1, .ref (G.2.2.2.2 2)]) (st := []) rfl dJ9_copyOf_2_6 rfl (Nat.le_of_ble_eq_true rfl) V (fun C4 S5 => wx_kq (fun r6 h3 V => ?_))
  refine wq_aret (r := r6) (pc := 9) dJ9_copyOf_2_9 rfl rfl ⟨_, rfl, V⟩
theorem vJ9_copyOf_3_0 {G : wq_G} {l : Launch} {d C S : Nat} {K : Option Nat → wq_H → Prop} (hd1 : 1 ≤ d) {x0 : Nat} {x1 : Int32} {x2 : Nat} {h : wq_H} (V : (¬ (some x2) = (some (G.2.2.2.2 2)) → False) ∧ ((some x2) = (some (G.2.2.2.2 2)) → wq_na G h (.inl (G.2.2.1 3, x1.toNatClampNeg, wq_ra (fun _ => none))) x1 x1.toNatClampNeg C S (fun a1 h2 => wq_ag G h2 x0 (fun y3 => wq_ci G l d (C - 1) (S - x1.toNatClampNeg) mJ8_min [.int y3, .int x1] h2 (fun y7 h4 C5 S6 => wq_cpR G h4 x0 (0 : Int32) a1 (0 : Int32) y7 (fun h8 => K (some a1) h8)))))) : wq_T G l d mJ9_copyOf_3 (wq_qq K) 0 [some (.ref x0), some (.int x1), some (.ref x2), none] [] h C S := by
  refine wq_aload_n (pc := 0) dJ9_copyOf_3_0 rfl rfl ?_
  refine wx_ldcM (pc := 1) q788 dJ9_copyOf_3_1 ?_
  refine wq_acmp_ne (x := (some x2)) (y := (some (G.2.2.2.2 2))) (pc := 3) (tgt := 13) dJ9_copyOf_3_3 rfl (fun c => ?_) (fun c => ?_)
  · have V := V.1 c
    refine wq_aload_n (pc := 13) dJ9_copyOf_3_13 rfl rfl ?_
    exact V.elim
  · have V := V.2 c
    refine wq_iload_n (pc := 6) dJ9_copyOf_3_6 rfl rfl ?_
    refine wx_nR (pc := 7) q790 dJ9_copyOf_3_7 V (fun a1 h2 V => ?_)
    refine wq_goto (pc := 10) (tgt := 24) dJ9_copyOf_3_10 rfl ?_
    refine wq_astore_n (L' := [some (.ref x0), some (.int x1), some (.ref x2), some (.ref a1)]) (pc := 24) dJ9_copyOf_3_24 rfl (Nat.le_of_ble_eq_true rfl) rfl ?_
    refine wq_aload_n (pc := 25) dJ9_copyOf_3_25 rfl rfl ?_
    refine wq_iconst (pc := 26) dJ9_copyOf_3_26 gsti0 ?_
    refine wq_aload_n (pc := 27) dJ9_copyOf_3_27 rfl rfl ?_
    refine wq_iconst (pc := 28) dJ9_copyOf_3_28 gsti0 ?_
    refine wq_aload_n (pc := 29) dJ9_copyOf_3_29 rfl rfl ?_
    refine wx_al (pc := 30) dJ9_copyOf_3_30 V (fun y3 V => ?_)
    refine wq_iload_n (pc := 31) dJ9_copyOf_3_31 rfl rfl ?_
    refine clq445 (pc := 32) (As := [.int y3, .int x1]) (st := [.int (0 : Int32), .ref a1, .int (0 : Int32), .ref x0]) rfl dJ9_copyOf_3_32 rfl (Nat.le_of_ble_eq_true rfl) V (fun C5 S6 => wx_ki (fun y7 h4 V => ?_))
    refine wx_cpR (pc := 35) (by exact q448) dJ9_copyOf_3_35 (Nat.le_of_ble_eq_true rfl) hd1 V (fun h8 V => ?_)
    refine wq_aload_n (pc := 38) dJ9_copyOf_3_38 rfl rfl ?_
    refine wq_aret (r := (some a1)) (pc := 39) dJ9_copyOf_3_39 rfl rfl ⟨_, rfl, V⟩
