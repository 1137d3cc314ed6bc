/-! WHAT THE CODE OF THE JDK AND THE COMPONENT ASKS (printed by gen/gengn.py) -/
set_option maxRecDepth 100000
theorem vX1_init_0 {G : wq_G} {l : Launch} {d C S : Nat} {K : wq_H → Prop} (hd1 : 1 ≤ d) {x0 : Nat} {h : wq_H} (V : wq_na G h (.inl (G.2.2.1 2, 900, .inl (fun _ => 0))) (900 : Int32) 900 C S (fun a1 h2 => wq_pf G h2 x0 [(0, 0)] (.ref a1) (fun h3 => wq_pf G h3 x0 [(0, 3)] (.int (-1 : Int32)) (fun h4 => wq_no G h4 1 [.null, .null, .int 0, .int 0, .int 0, .long 0] 6 (C - 1) (S - 900) (fun a5 h6 => wq_cw G l d ((C - 1) - 1) ((S - 900) - 6) mX2_init [.ref a5] h6 (fun h7 C8 S9 => wq_pf G h7 x0 [(0, 7)] (.ref a5) (fun h10 => wq_no G h10 16 [.int 0, .null, .int 0] 3 C8 S9 (fun a11 h12 => wq_cw G l d (C8 - 1) (S9 - 3) mJ2_init [.ref a11] h12 (fun h13 C14 S15 => wq_pf G h13 x0 [(0, 8)] (.ref a11) (fun h16 => wq_no G h16 16 [.int 0, .null, .int 0] 3 C14 S15 (fun a17 h18 => wq_cw G l d (C14 - 1) (S15 - 3) mJ2_init [.ref a17] h18 (fun h19 C20 S21 => wq_pf G h19 x0 [(0, 9)] (.ref a17) (fun h22 => wq_no G h22 16 [.int 0, .null, .int 0] 3 C20 S21 (fun a23 h24 => wq_cw G l d (C20 - 1) (S21 - 3) mJ2_init [.ref a23] h24 (fun h25 C26 S27 => wq_pf G h25 x0 [(0, 10)] (.ref a23) (fun h28 => K h28)))))))))))))))) : wq_T G l d mX1_init (wq_qv K) 0 [some (.ref x0)] [] h C S := by
  refine wq_aload_n (pc := 0) dX1_init_0 rfl rfl ?_
  refine wq_objInit (pc := 1) q156 q157 q158 dX1_init_1 (Nat.le_of_ble_eq_true rfl) hd1 ?_
  refine wq_aload_n (pc := 4) dX1_init_4 rfl rfl ?_
  refine wq_sipush (pc := 5) dX1_init_5 gsts900 ?_
  refine wx_nB (pc := 8) q185 dX1_init_8 V (fun a1 h2 V => ?_)
  refine pfq214 (pc := 10) rfl rfl dX1_init_10 (wq_nfr rfl (some a1)) V (fun h3 V => ?_)
  refine wq_aload_n (pc := 13) dX1_init_13 rfl rfl ?_
  refine wq_iconst (pc := 14) dX1_init_14 gstim1 ?_
  refine pfq217 (pc := 15) rfl dX1_init_15 ⟨rfl, rfl⟩ V (fun h4 V => ?_)
  refine wq_aload_n (pc := 18) dX1_init_18 rfl rfl ?_
  refine nwq159 (pc := 19) rfl dX1_init_19 V (fun a5 h6 V => ?_)
  refine wq_dup (pc := 22) dX1_init_22 rfl ?_
  refine clq161 (pc := 23) (As := []) (st := [.ref a5, .ref x0]) rfl dX1_init_23 rfl (Nat.le_of_ble_eq_true rfl) V (fun C8 S9 => wx_kv (fun h7 V => ?_))
  refine pfq221 (pc := 26) rfl rfl dX1_init_26 (wq_nfr rfl (some a5)) V (fun h10 V => ?_)
  refine wq_aload_n (pc := 29) dX1_init_29 rfl rfl ?_
  refine nwq188 (pc := 30) rfl dX1_init_30 V (fun a11 h12 V => ?_)
  refine wq_dup (pc := 33) dX1_init_33 rfl ?_
  refine clq190 (pc := 34) (As := []) (st := [.ref a11, .ref x0]) rfl dX1_init_34 rfl (Nat.le_of_ble_eq_true rfl) V (fun C14 S15 => wx_kv (fun h13 V => ?_))
  refine pfq222 (pc := 37) rfl rfl dX1_init_37 (wq_nfr rfl (some a11)) V (fun h16 V => ?_)
  refine wq_aload_n (pc := 40) dX1_init_40 rfl rfl ?_
  refine nwq188 (pc := 41) rfl dX1_init_41 V (fun a17 h18 V => ?_)
  refine wq_dup (pc := 44) dX1_init_44 rfl ?_
  refine clq190 (pc := 45) (As := []) (st := [.ref a17, .ref x0]) rfl dX1_init_45 rfl (Nat.le_of_ble_eq_true rfl) V (fun C20 S21 => wx_kv (fun h19 V => ?_))
  refine pfq223 (pc := 48) rfl rfl dX1_init_48 (wq_nfr rfl (some a17)) V (fun h22 V => ?_)
  refine wq_aload_n (pc := 51) dX1_init_51 rfl rfl ?_
  refine nwq188 (pc := 52) rfl dX1_init_52 V (fun a23 h24 V => ?_)
  refine wq_dup (pc := 55) dX1_init_55 rfl ?_
  refine clq190 (pc := 56) (As := []) (st := [.ref a23, .ref x0]) rfl dX1_init_56 rfl (Nat.le_of_ble_eq_true rfl) V (fun C26 S27 => wx_kv (fun h25 V => ?_))
  refine pfq224 (pc := 59) rfl rfl dX1_init_59 (wq_nfr rfl (some a23)) V (fun h28 V => ?_)
  refine wq_vret (pc := 62) dX1_init_62 rfl ⟨rfl, V⟩
theorem vX1_feed_0 {G : wq_G} {l : Launch} {d C S : Nat} {K : Int32 → wq_H → Prop} {x0 : Nat} {x1 : Int32} {x2 : Int32} {x3 : Int32} {x4 : Int32} {x5 : Int32} {h : wq_H} (V : wq_gI h x0 [(0, 1)] (fun y1 => ((y1 + (20 : Int32)) ≤ (900 : Int32) → wq_T G l d mX1_feed (wq_qi K) 18 [some (.ref x0), some (.int x1), some (.int x2), some (.int x3), some (.int x4), some (.int x5), some (.int (0 : Int32)), none] [] h C S) ∧ (¬ (y1 + (20 : Int32)) ≤ (900 : Int32) → K (-1 : Int32) h))) : wq_T G l d mX1_feed (wq_qi K) 0 [some (.ref x0), some (.int x1), some (.int x2), some (.int x3), some (.int x4), some (.int x5), none, none] [] h C S := by
  refine wq_aload_n (pc := 0) dX1_feed_0 rfl rfl ?_
  refine gfq215 (pc := 1) rfl dX1_feed_1 V (fun y1 V => ?_)
  refine wq_bipush (pc := 4) dX1_feed_4 gstb20 ?_
  refine wq_iadd (pc := 6) dX1_feed_6 ?_
  refine wq_sipush (pc := 7) dX1_feed_7 gsts900 ?_
  refine wq_icmp_le (pc := 10) (tgt := 15) dX1_feed_10 rfl (fun c => ?_) (fun c => ?_)
  · have V := V.1 c
    refine wq_iconst (pc := 15) dX1_feed_15 gsti0 ?_
    refine wq_istore (L' := [some (.ref x0), some (.int x1), some (.int x2), some (.int x3), some (.int x4), some (.int x5), some (.int (0 : Int32)), none]) (pc := 16) dX1_feed_16 (Nat.le_of_ble_eq_true rfl) rfl ?_
    exact wq_T.less V ⟨rfl, ⟨rfl, ⟨rfl, ⟨rfl, ⟨rfl, ⟨rfl, ⟨rfl, trivial⟩⟩⟩⟩⟩⟩⟩
  · have V := V.2 c
    refine wq_iconst (pc := 13) dX1_feed_13 gstim1 ?_
    refine wq_iret (pc := 14) dX1_feed_14 rfl ⟨_, rfl, V⟩
theorem vX1_feed_18 {G : wq_G} {l : Launch} {d C S : Nat} {K : Int32 → wq_H → Prop} {x0 : Nat} {x1 : Int32} {x2 : Int32} {x3 : Int32} {x4 : Int32} {x5 : Int32} {x6 : Int32} {h : wq_H} (V : ((20 : Int32) ≤ x6 → wq_gI h x0 [(0, 1)] (fun y1 => wq_pf G h x0 [(0, 1)] (.int (y1 + (20 : Int32))) (fun h2 => wq_gI h2 x0 [(0, 1)] (fun y3 => K y3 h2)))) ∧ (¬ (20 : Int32) ≤ x6 → ((4 : Int32) ≤ x6 → ((8 : Int32) ≤ x6 → ((12 : Int32) ≤ x6 → ((16 : Int32) ≤ x6 → wq_gR h x0 [(0, 0)] (fun a4 => wq_gI h x0 [(0, 1)] (fun y5 => wq_sb G h a4 (y5 + x6) (((x5.toUInt32 >>> (((24 : Int32) - ((8 : Int32) * (x6 - x6 / (4 : Int32) * (4 : Int32)))).toUInt32 &&& Int32.toUInt32 31)).toInt32).toInt8.toInt32) (fun h6 => wq_T G l d mX1_feed (wq_qi K) 18 [some (.ref x0), some (.int x1), some (.int x2), some (.int x3), some (.int x4), some (.int x5), some (.int (x6 + (1 : Int32))), none] [] h6 C S)))) ∧ (¬ (16 : Int32) ≤ x6 → wq_gR h x0 [(0, 0)] (fun a7 => wq_gI h x0 [(0, 1)] (fun y8 => wq_sb G h a7 (y8 + x6) (((x4.toUInt32 >>> (((24 : Int32) - ((8 : Int32) * (x6 - x6 / (4 : Int32) * (4 : Int32)))).toUInt32 &&& Int32.toUInt32 31)).toInt32).toInt8.toInt32) (fun h9 => wq_T G l d mX1_feed (wq_qi K) 18 [some (.ref x0), some (.int x1), some (.int x2), some (.int x3), some (.int x4), some (.int x5), some (.int (x6 + (1 : Int32))), none] [] h9 C S))))) ∧ (¬ (12 : Int32) ≤ x6 → wq_gR h x0 [(0, 0)] (fun a10 => wq_gI h x0 [(0, 1)] (fun y11 => wq_sb G h a10 (y11 + x6) (((x3.toUInt32 >>> (((24 : Int32) - ((8 : Int32) * (x6 - x6 / (4 : Int32) * (4 : Int32)))).toUInt32 &&& Int32.toUInt32 31)).toInt32).toInt8.toInt32) (fun h12 => wq_T G l d mX1_feed (wq_qi K) 18 [some (.ref x0), some (.int x1), some (.int x2), some (.int x3), some (.int x4), some (.int x5), some (.int (x6 + (1 : Int32))), none] [] h12 C S))))) ∧ (¬ (8 : Int32) ≤ x6 → wq_gR h x0 [(0, 0)] (fun a13 => wq_gI h x0 [(0, 1)] (fun y14 => wq_sb G h a13 (y14 + x6) (((x2.toUInt32 >>> (((24 : Int32) - ((8 : Int32) * (x6 - x6 / (4 : Int32) * (4 : Int32)))).toUInt32 &&& Int32.toUInt32 31)).toInt32).toInt8.toInt32) (fun h15 => wq_T G l d mX1_feed (wq_qi K) 18 [some (.ref x0), some (.int x1), some (.int x2), some (.int x3), some (.int x4), some (.int x5), some (.int (x6 + (1 : Int32))), none] [] h15 C S))))) ∧ (¬ (4 : Int32) ≤ x6 → wq_gR h x0 [(0, 0)] (fun a16 => wq_gI h x0 [(0, 1)] (fun y17 => wq_sb G h a16 (y17 + x6) (((x1.toUInt32 >>> (((24 : Int32) - ((8 : Int32) * (x6 - x6 / (4 : Int32) * (4 : Int32)))).toUInt32 &&& Int32.toUInt32 31)).toInt32).toInt8.toInt32) (fun h18 => wq_T G l d mX1_feed (wq_qi K) 18 [some (.ref x0), some (.int x1), some (.int x2), some (.int x3), some (.int x4), some (.int x5), some (.int (x6 + (1 : Int32))), none] [] h18 C S)))))) : wq_T G l d mX1_feed (wq_qi K) 18 [some (.ref x0), some (.int x1), some (.int x2), some (.int x3), some (.int x4), some (.int x5), some (.int x6), none] [] h C S := by
  refine wq_iload (pc := 18) dX1_feed_18 rfl ?_
  refine wq_bipush (pc := 20) dX1_feed_20 gstb20 ?_
  refine wq_icmp_ge (pc := 22) (tgt := 105) dX1_feed_22 rfl (fun c => ?_) (fun c => ?_)
  · have V := V.1 c
    refine wq_aload_n (pc := 105) dX1_feed_105 rfl rfl ?_
    refine wq_dup (pc := 106) dX1_feed_106 rfl ?_
    refine gfq215 (pc := 107) rfl dX1_feed_107 V (fun y1 V => ?_)
    refine wq_bipush (pc := 110) dX1_feed_110 gstb20 ?_
    refine wq_iadd (pc := 112) dX1_feed_112 ?_
    refine pfq215 (pc := 113) rfl dX1_feed_113 ⟨rfl, rfl⟩ V (fun h2 V => ?_)
    refine wq_aload_n (pc := 116) dX1_feed_116 rfl rfl ?_
    refine gfq215 (pc := 117) rfl dX1_feed_117 V (fun y3 V => ?_)
    refine wq_iret (pc := 120) dX1_feed_120 rfl ⟨_, rfl, V⟩
  · have V := V.2 c
    refine wq_iload (pc := 25) dX1_feed_25 rfl ?_
    refine wq_iconst (pc := 27) dX1_feed_27 gsti4 ?_
    refine wq_icmp_ge (pc := 28) (tgt := 35) dX1_feed_28 rfl (fun c => ?_) (fun c => ?_)
    · have V := V.1 c
      refine wq_iload (pc := 35) dX1_feed_35 rfl ?_
      refine wq_bipush (pc := 37) dX1_feed_37 gstb8 ?_
      refine wq_icmp_ge (pc := 39) (tgt := 46) dX1_feed_39 rfl (fun c => ?_) (fun c => ?_)
      · have V := V.1 c
        refine wq_iload (pc := 46) dX1_feed_46 rfl ?_
        refine wq_bipush (pc := 48) dX1_feed_48 gstb12 ?_
        refine wq_icmp_ge (pc := 50) (tgt := 57) dX1_feed_50 rfl (fun c => ?_) (fun c => ?_)
        · have V := V.1 c
          refine wq_iload (pc := 57) dX1_feed_57 rfl ?_
          refine wq_bipush (pc := 59) dX1_feed_59 gstb16 ?_
          refine wq_icmp_ge (pc := 61) (tgt := 69) dX1_feed_61 rfl (fun c => ?_) (fun c => ?_)
          · have V := V.1 c
            refine wq_iload (pc := 69) dX1_feed_69 rfl ?_
            refine wq_istore (L' := [some (.ref x0), some (.int x1), some (.int x2), some (.int x3), some (.int x4), some (.int x5), some (.int x6), some (.int x5)]) (pc := 71) dX1_feed_71 (Nat.le_of_ble_eq_true rfl) rfl ?_
            refine wq_aload_n (pc := 73) dX1_feed_73 rfl rfl ?_
            refine gfq214 (pc := 74) rfl dX1_feed_74 V (fun a4 V => ?_)
            refine wq_aload_n (pc := 77) dX1_feed_77 rfl rfl ?_
            refine gfq215 (pc := 78) rfl dX1_feed_78 V (fun y5 V => ?_)
            refine wq_iload (pc := 81) dX1_feed_81 rfl ?_
            refine wq_iadd (pc := 83) dX1_feed_83 ?_
            refine wq_iload (pc := 84) dX1_feed_84 rfl ?_
            refine wq_bipush (pc := 86) dX1_feed_86 gstb24 ?_
            refine wq_bipush (pc := 88) dX1_feed_88 gstb8 ?_
            refine wq_iload (pc := 90) dX1_feed_90 rfl ?_
            refine wq_iconst (pc := 92) dX1_feed_92 gsti4 ?_
            refine wq_irem (pc := 93) dX1_feed_93 (by decide) ?_
            refine wq_imul (pc := 94) dX1_feed_94 ?_
            refine wq_isub (pc := 95) dX1_feed_95 ?_
            refine wq_iushr (pc := 96) dX1_feed_96 rfl ?_
            refine wq_i2b (pc := 97) dX1_feed_97 ?_
            refine wx_sb (pc := 98) dX1_feed_98 V (fun h6 V => ?_)
            refine wq_iinc (L' := [some (.ref x0), some (.int x1), some (.int x2), some (.int x3), some (.int x4), some (.int x5), some (.int (x6 + (1 : Int32))), some (.int x5)]) (pc := 99) dX1_feed_99 rfl (by rw [gsti1]) (Nat.le_of_ble_eq_true rfl) rfl ?_
            refine wq_goto (pc := 102) (tgt := 18) dX1_feed_102 rfl ?_
            exact wq_T.less V ⟨rfl, ⟨rfl, ⟨rfl, ⟨rfl, ⟨rfl, ⟨rfl, ⟨rfl, trivial⟩⟩⟩⟩⟩⟩⟩
          · have V := V.2 c
            refine wq_iload (pc := 64) dX1_feed_64 rfl ?_
            refine wq_goto (pc := 66) (tgt := 71) dX1_feed_66 rfl ?_
            refine wq_istore (L' := [some (.ref x0), some (.int x1), some (.int x2), some (.int x3), some (.int x4), some (.int x5), some (.int x6), some (.int x4)]) (pc := 71) dX1_feed_71 (Nat.le_of_ble_eq_true rfl) rfl ?_
            refine wq_aload_n (pc := 73) dX1_feed_73 rfl rfl ?_
            refine gfq214 (pc := 74) rfl dX1_feed_74 V (fun a7 V => ?_)
            refine wq_aload_n (pc := 77) dX1_feed_77 rfl rfl ?_
            refine gfq215 (pc := 78) rfl dX1_feed_78 V (fun y8 V => ?_)
            refine wq_iload (pc := 81) dX1_feed_81 rfl ?_
            refine wq_iadd (pc := 83) dX1_feed_83 ?_
            refine wq_iload (pc := 84) dX1_feed_84 rfl ?_
            refine wq_bipush (pc := 86) dX1_feed_86 gstb24 ?_
            refine wq_bipush (pc := 88) dX1_feed_88 gstb8 ?_
            refine wq_iload (pc := 90) dX1_feed_90 rfl ?_
            refine wq_iconst (pc := 92) dX1_feed_92 gsti4 ?_
            refine wq_irem (pc := 93) dX1_feed_93 (by decide) ?_
            refine wq_imul (pc := 94) dX1_feed_94 ?_
            refine wq_isub (pc := 95) dX1_feed_95 ?_
            refine wq_iushr (pc := 96) dX1_feed_96 rfl ?_
            refine wq_i2b (pc := 97) dX1_feed_97 ?_
            refine wx_sb (pc := 98) dX1_feed_98 V (fun h9 V => ?_)
            refine wq_iinc (L' := [some (.ref x0), some (.int x1), some (.int x2), some (.int x3), some (.int x4), some (.int x5), some (.int (x6 + (1 : Int32))), some (.int x4)]) (pc := 99) dX1_feed_99 rfl (by rw [gsti1]) (Nat.le_of_ble_eq_true rfl) rfl ?_
            refine wq_goto (pc := 102) (tgt := 18) dX1_feed_102 rfl ?_
            exact wq_T.less V ⟨rfl, ⟨rfl, ⟨rfl, ⟨rfl, ⟨rfl, ⟨rfl, ⟨rfl, trivial⟩⟩⟩⟩⟩⟩⟩
        · have V := V.2 c
          refine wq_iload_n (pc := 53) dX1_feed_53 rfl rfl ?_
          refine wq_goto (pc := 54) (tgt := 71) dX1_feed_54 rfl ?_
          refine wq_istore (L' := [some (.ref x0), some (.int x1), some (.int x2), some (.int x3), some (.int x4), some (.int x5), some (.int x6), some (.int x3)]) (pc := 71) dX1_feed_71 (Nat.le_of_ble_eq_true rfl) rfl ?_
          refine wq_aload_n (pc := 73) dX1_feed_73 rfl rfl ?_
          refine gfq214 (pc := 74) rfl dX1_feed_74 V (fun a10 V => ?_)
          refine wq_aload_n (pc := 77) dX1_feed_77 rfl rfl ?_
          refine gfq215 (pc := 78) rfl dX1_feed_78 V (fun y11 V => ?_)
          refine wq_iload (pc := 81) dX1_feed_81 rfl ?_
          refine wq_iadd (pc := 83) dX1_feed_83 ?_
          refine wq_iload (pc := 84) dX1_feed_84 rfl ?_
          refine wq_bipush (pc := 86) dX1_feed_86 gstb24 ?_
          refine wq_bipush (pc := 88) dX1_feed_88 gstb8 ?_
          refine wq_iload (pc := 90) dX1_feed_90 rfl ?_
          refine wq_iconst (pc := 92) dX1_feed_92 gsti4 ?_
          refine wq_irem (pc := 93) dX1_feed_93 (by decide) ?_
          refine wq_imul (pc := 94) dX1_feed_94 ?_
          refine wq_isub (pc := 95) dX1_feed_95 ?_
          refine wq_iushr (pc := 96) dX1_feed_96 rfl ?_
          refine wq_i2b (pc := 97) dX1_feed_97 ?_
          refine wx_sb (pc := 98) dX1_feed_98 V (fun h12 V => ?_)
          refine wq_iinc (L' := [some (.ref x0), some (.int x1), some (.int x2), some (.int x3), some (.int x4), some (.int x5), some (.int (x6 + (1 : Int32))), some (.int x3)]) (pc := 99) dX1_feed_99 rfl (by rw [gsti1]) (Nat.le_of_ble_eq_true rfl) rfl ?_
          refine wq_goto (pc := 102) (tgt := 18) dX1_feed_102 rfl ?_
          exact wq_T.less V ⟨rfl, ⟨rfl, ⟨rfl, ⟨rfl, ⟨rfl, ⟨rfl, ⟨rfl, trivial⟩⟩⟩⟩⟩⟩⟩
      · have V := V.2 c
        refine wq_iload_n (pc := 42) dX1_feed_42 rfl rfl ?_
        refine wq_goto (pc := 43) (tgt := 71) dX1_feed_43 rfl ?_
        refine wq_istore (L' := [some (.ref x0), some (.int x1), some (.int x2), some (.int x3), some (.int x4), some (.int x5), some (.int x6), some (.int x2)]) (pc := 71) dX1_feed_71 (Nat.le_of_ble_eq_true rfl) rfl ?_
        refine wq_aload_n (pc := 73) dX1_feed_73 rfl rfl ?_
        refine gfq214 (pc := 74) rfl dX1_feed_74 V (fun a13 V => ?_)
        refine wq_aload_n (pc := 77) dX1_feed_77 rfl rfl ?_
        refine gfq215 (pc := 78) rfl dX1_feed_78 V (fun y14 V => ?_)
        refine wq_iload (pc := 81) dX1_feed_81 rfl ?_
        refine wq_iadd (pc := 83) dX1_feed_83 ?_
        refine wq_iload (pc := 84) dX1_feed_84 rfl ?_
        refine wq_bipush (pc := 86) dX1_feed_86 gstb24 ?_
        refine wq_bipush (pc := 88) dX1_feed_88 gstb8 ?_
        refine wq_iload (pc := 90) dX1_feed_90 rfl ?_
        refine wq_iconst (pc := 92) dX1_feed_92 gsti4 ?_
        refine wq_irem (pc := 93) dX1_feed_93 (by decide) ?_
        refine wq_imul (pc := 94) dX1_feed_94 ?_
        refine wq_isub (pc := 95) dX1_feed_95 ?_
        refine wq_iushr (pc := 96) dX1_feed_96 rfl ?_
        refine wq_i2b (pc := 97) dX1_feed_97 ?_
        refine wx_sb (pc := 98) dX1_feed_98 V (fun h15 V => ?_)
        refine wq_iinc (L' := [some (.ref x0), some (.int x1), some (.int x2), some (.int x3), some (.int x4), some (.int x5), some (.int (x6 + (1 : Int32))), some (.int x2)]) (pc := 99) dX1_feed_99 rfl (by rw [gsti1]) (Nat.le_of_ble_eq_true rfl) rfl ?_
        refine wq_goto (pc := 102) (tgt := 18) dX1_feed_102 rfl ?_
        exact wq_T.less V ⟨rfl, ⟨rfl, ⟨rfl, ⟨rfl, ⟨rfl, ⟨rfl, ⟨rfl, trivial⟩⟩⟩⟩⟩⟩⟩
    · have V := V.2 c
      refine wq_iload_n (pc := 31) dX1_feed_31 rfl rfl ?_
      refine wq_goto (pc := 32) (tgt := 71) dX1_feed_32 rfl ?_
      refine wq_istore (L' := [some (.ref x0), some (.int x1), some (.int x2), some (.int x3), some (.int x4), some (.int x5), some (.int x6), some (.int x1)]) (pc := 71) dX1_feed_71 (Nat.le_of_ble_eq_true rfl) rfl ?_
      refine wq_aload_n (pc := 73) dX1_feed_73 rfl rfl ?_
      refine gfq214 (pc := 74) rfl dX1_feed_74 V (fun a16 V => ?_)
      refine wq_aload_n (pc := 77) dX1_feed_77 rfl rfl ?_
      refine gfq215 (pc := 78) rfl dX1_feed_78 V (fun y17 V => ?_)
      refine wq_iload (pc := 81) dX1_feed_81 rfl ?_
      refine wq_iadd (pc := 83) dX1_feed_83 ?_
      refine wq_iload (pc := 84) dX1_feed_84 rfl ?_
      refine wq_bipush (pc := 86) dX1_feed_86 gstb24 ?_
      refine wq_bipush (pc := 88) dX1_feed_88 gstb8 ?_
      refine wq_iload (pc := 90) dX1_feed_90 rfl ?_
      refine wq_iconst (pc := 92) dX1_feed_92 gsti4 ?_
      refine wq_irem (pc := 93) dX1_feed_93 (by decide) ?_
      refine wq_imul (pc := 94) dX1_feed_94 ?_
      refine wq_isub (pc := 95) dX1_feed_95 ?_
      refine wq_iushr (pc := 96) dX1_feed_96 rfl ?_
      refine wq_i2b (pc := 97) dX1_feed_97 ?_
      refine wx_sb (pc := 98) dX1_feed_98 V (fun h18 V => ?_)
      refine wq_iinc (L' := [some (.ref x0), some (.int x1), some (.int x2), some (.int x3), some (.int x4), some (.int x5), some (.int (x6 + (1 : Int32))), some (.int x1)]) (pc := 99) dX1_feed_99 rfl (by rw [gsti1]) (Nat.le_of_ble_eq_true rfl) rfl ?_
      refine wq_goto (pc := 102) (tgt := 18) dX1_feed_102 rfl ?_
      exact wq_T.less V ⟨rfl, ⟨rfl, ⟨rfl, ⟨rfl, ⟨rfl, ⟨rfl, ⟨rfl, trivial⟩⟩⟩⟩⟩⟩⟩
theorem vX1_book_0 {G : wq_G} {l : Launch} {d C S : Nat} {K : Int32 → wq_H → Prop} {x0 : Nat} {x1 : Int32} {h : wq_H} (V : wq_gI h x0 [(0, 1)] (fun y1 => wq_ci G l d C S mX1_in [.int x1, .int (0 : Int32), .int y1] h (fun y5 h2 C3 S4 => (¬ y5 = 0 → wq_no G h2 3 [.null, .null, .null, .null, .null, .int 0, .int 0] 7 C3 S4 (fun a6 h7 => wq_no G h7 4 [.null, .int 0, .int 0] 3 (C3 - 1) (S4 - 7) (fun a8 h9 => wq_gR h9 x0 [(0, 0)] (fun a10 => wq_cw G l d ((C3 - 1) - 1) ((S4 - 7) - 3) mX5_init [.ref a8, .ref a10, .int x1] h9 (fun h11 C12 S13 => wq_cw G l d C12 S13 mX4_init [.ref a6, .ref a8] h11 (fun h14 C15 S16 => wq_pf G h14 x0 [(0, 1)] (.int (0 : Int32)) (fun h17 => ∃ fs22 : List Value, h17 a6 = some (.inr (3, fs22)) ∧ (wq_cq G l d C15 S16 mX4_read [.ref a6] h17 (fun r21 h18 C19 S20 => G.1 ≤ a6 ∧ (wq_gI h18 a6 [(3, 5)] (fun y24 => wq_pf G h18 x0 [(0, 2)] (.int y24) (fun h26 => (r21 = none → wq_pf G h26 x0 [(0, 4)] (.int (4 : Int32)) (fun h28 => G.1 ≤ a6 ∧ (wq_gI h28 a6 [(3, 6)] (fun y29 => wq_pf G h28 x0 [(0, 3)] (.int y29) (fun h31 => K (-1 : Int32) h31))))) ∧ (∀ a27, r21 = some a27 → wq_pf G h26 x0 [(0, 5)] (.ref a27) (fun h32 => wq_gQ h32 x0 [(0, 5)] (fun r33 => ∃ a34, r33 = some a34 ∧ (wq_gR h32 a34 [(5, 3)] (fun a36 => ∃ fs41 : List Value, h32 a36 = some (.inr (6, fs41)) ∧ (wq_cq G l d C19 S20 mX7_copy [.ref a36, .int (0 : Int32)] h32 (fun r40 h37 C38 S39 => wq_pf G h37 x0 [(0, 6)] (va_rf r40) (fun h43 => wq_gR h43 x0 [(0, 8)] (fun a44 => ∃ fs48 : List Value, h43 a44 = some (.inr (16, fs48)) ∧ (wq_cw G l d C38 S39 mJ2_clear [.ref a44] h43 (fun h45 C46 S47 => wq_gR h45 x0 [(0, 9)] (fun a50 => ∃ fs54 : List Value, h45 a50 = some (.inr (16, fs54)) ∧ (wq_cw G l d C46 S47 mJ2_clear [.ref a50] h45 (fun h51 C52 S53 => wq_gR h51 x0 [(0, 10)] (fun a56 => ∃ fs60 : List Value, h51 a56 = some (.inr (16, fs60)) ∧ (wq_cw G l d C52 S53 mJ2_clear [.ref a56] h51 (fun h57 C58 S59 => wq_gQ h57 x0 [(0, 5)] (fun r62 => ∃ a63, r62 = some a63 ∧ (wq_gI h57 a63 [(5, 1)] (fun y65 => ∃ fs70 : List Value, h57 x0 = some (.inr (0, fs70)) ∧ (wq_ci G l d C58 S59 mX1_well [.ref x0, .int y65] h57 (fun y69 h66 C67 S68 => K y69 h66)))))))))))))))))))))))))))))))))) ∧ (y5 = 0 → ∃ fs76 : List Value, h2 x0 = some (.inr (0, fs76)) ∧ (wq_ci G l d C3 S4 mX1_refused [.ref x0, .int (2 : Int32)] h2 (fun y75 h72 C73 S74 => K y75 h72)))))) : wq_T G l d mX1_book (wq_qi K) 0 [some (.ref x0), some (.int x1), none, none] [] h C S := by
  refine wq_iload_n (pc := 0) dX1_book_0 rfl rfl ?_
  refine wq_iconst (pc := 1) dX1_book_1 gsti0 ?_
  refine wq_aload_n (pc := 2) dX1_book_2 rfl rfl ?_
  refine gfq215 (pc := 3) rfl dX1_book_3 V (fun y1 V => ?_)
  refine clq256 (pc := 6) (As := [.int x1, .int (0 : Int32), .int y1]) (st := []) rfl dX1_book_6 rfl (Nat.le_of_ble_eq_true rfl) V (fun C3 S4 => wx_ki (fun y5 h2 V => ?_))
  refine wq_if_ne (pc := 9) (tgt := 18) dX1_book_9 rfl (fun c => ?_) (fun c => ?_)
  · have V := V.1 c
    refine nwq263 (pc := 18) rfl dX1_book_18 V (fun a6 h7 V => ?_)
    refine wq_dup (pc := 21) dX1_book_21 rfl ?_
    refine nwq265 (pc := 22) rfl dX1_book_22 V (fun a8 h9 V => ?_)
    refine wq_dup (pc := 25) dX1_book_25 rfl ?_
    refine wq_aload_n (pc := 26) dX1_book_26 rfl rfl ?_
    refine gfq214 (pc := 27) rfl dX1_book_27 V (fun a10 V => ?_)
    refine wq_iload_n (pc := 30) dX1_book_30 rfl rfl ?_
    refine clq267 (pc := 31) (As := [.ref a10, .int x1]) (st := [.ref a8, .ref a6, .ref a6]) rfl dX1_book_31 rfl (Nat.le_of_ble_eq_true rfl) V (fun C12 S13 => wx_kv (fun h11 V => ?_))
    refine clq281 (pc := 34) (As := [.ref a8]) (st := [.ref a6]) rfl dX1_book_34 rfl (Nat.le_of_ble_eq_true rfl) V (fun C15 S16 => wx_kv (fun h14 V => ?_))
    refine wq_astore_n (L' := [some (.ref x0), some (.int x1), some (.ref a6), none]) (pc := 37) dX1_book_37 rfl (Nat.le_of_ble_eq_true rfl) rfl ?_
    refine wq_aload_n (pc := 38) dX1_book_38 rfl rfl ?_
    refine wq_iconst (pc := 39) dX1_book_39 gsti0 ?_
    refine pfq215 (pc := 40) rfl dX1_book_40 ⟨rfl, rfl⟩ V (fun h17 V => ?_)
    refine wq_aload_n (pc := 43) dX1_book_43 rfl rfl ?_
    obtain ⟨fs22, w23, V⟩ := V
    refine clq591 (pc := 44) (As := []) (st := []) rfl dX1_book_44 rfl (Nat.le_of_ble_eq_true rfl) w23 V (fun C19 S20 => wx_kq (fun r21 h18 V => ?_))
    refine wq_astore_nQ (L' := [some (.ref x0), some (.int x1), some (.ref a6), some (va_rf r21)]) (pc := 47) dX1_book_47 rfl (Nat.le_of_ble_eq_true rfl) rfl ?_
    refine wq_aload_n (pc := 48) dX1_book_48 rfl rfl ?_
    refine wq_aload_n (pc := 49) dX1_book_49 rfl rfl ?_
    obtain ⟨w25, V⟩ := V
    refine gfq573 (pc := 50) rfl dX1_book_50 w25 V (fun y24 V => ?_)
    refine pfq216 (pc := 53) rfl dX1_book_53 ⟨rfl, rfl⟩ V (fun h26 V => ?_)
    refine wq_aload_nQ (pc := 56) dX1_book_56 rfl rfl ?_
    refine wq_ifnonnull (pc := 57) (tgt := 75) dX1_book_57 rfl (fun a27 c => ?_) (fun c => ?_)
    · subst c
      have V := V.2 a27 rfl
      refine wq_aload_n (pc := 75) dX1_book_75 rfl rfl ?_
      refine wq_aload_n (pc := 76) dX1_book_76 rfl rfl ?_
      refine pfq219 (pc := 77) rfl dX1_book_77 (wq_nfr rfl (some a27)) V (fun h32 V => ?_)
      refine wq_aload_n (pc := 80) dX1_book_80 rfl rfl ?_
      refine wq_aload_n (pc := 81) dX1_book_81 rfl rfl ?_
      refine gfq219 (pc := 82) rfl dX1_book_82 V (fun r33 V => ?_)
      obtain ⟨a34, w35, V⟩ := V
      rw [w35]
      refine gfq316 (pc := 85) rfl dX1_book_85 V (fun a36 V => ?_)
      refine wq_iconst (pc := 88) dX1_book_88 gsti0 ?_
      obtain ⟨fs41, w42, V⟩ := V
      refine clq944 (pc := 89) (As := [.int (0 : Int32)]) (st := [.ref x0]) rfl dX1_book_89 rfl (Nat.le_of_ble_eq_true rfl) w42 V (fun C38 S39 => wx_kq (fun r40 h37 V => ?_))
      refine pfq220 (pc := 92) rfl dX1_book_92 (wq_nfr rfl r40) V (fun h43 V => ?_)
      refine wq_aload_n (pc := 95) dX1_book_95 rfl rfl ?_
      refine gfq222 (pc := 96) rfl dX1_book_96 V (fun a44 V => ?_)
      obtain ⟨fs48, w49, V⟩ := V
      refine clq973 (pc := 99) (As := []) (st := []) rfl dX1_book_99 rfl (Nat.le_of_ble_eq_true rfl) w49 V (fun C46 S47 => wx_kv (fun h45 V => ?_))
      refine wq_aload_n (pc := 102) dX1_book_102 rfl rfl ?_
      refine gfq223 (pc := 103) rfl dX1_book_103 V (fun a50 V => ?_)
      obtain ⟨fs54, w55, V⟩ := V
      refine clq973 (pc := 106) (As := []) (st := []) rfl dX1_book_106 rfl (Nat.le_of_ble_eq_true rfl) w55 V (fun C52 S53 => wx_kv (fun h51 V => ?_))
      refine wq_aload_n (pc := 109) dX1_book_109 rfl rfl ?_
      refine gfq224 (pc := 110) rfl dX1_book_110 V (fun a56 V => ?_)
      obtain ⟨fs60, w61, V⟩ := V
      refine clq973 (pc := 113) (As := []) (st := []) rfl dX1_book_113 rfl (Nat.le_of_ble_eq_true rfl) w61 V (fun C58 S59 => wx_kv (fun h57 V => ?_))
      refine wq_aload_n (pc := 116) dX1_book_116 rfl rfl ?_
      refine wq_aload_n (pc := 117) dX1_book_117 rfl rfl ?_
      refine gfq219 (pc := 118) rfl dX1_book_118 V (fun r62 V => ?_)
      obtain ⟨a63, w64, V⟩ := V
      rw [w64]
      refine gfq310 (pc := 121) rfl dX1_book_121 V (fun y65 V => ?_)
      obtain ⟨fs70, w71, V⟩ := V
      refine clq977 (pc := 124) (As := [.int y65]) (st := []) rfl dX1_book_124 rfl (Nat.le_of_ble_eq_true rfl) w71 V (fun C67 S68 => wx_ki (fun y69 h66 V => ?_))
      refine wq_iret (pc := 127) dX1_book_127 rfl ⟨_, rfl, V⟩
    · subst c
      have V := V.1 rfl
      refine wq_aload_n (pc := 60) dX1_book_60 rfl rfl ?_
      refine wq_iconst (pc := 61) dX1_book_61 gsti4 ?_
      refine pfq218 (pc := 62) rfl dX1_book_62 ⟨rfl, rfl⟩ V (fun h28 V => ?_)
      refine wq_aload_n (pc := 65) dX1_book_65 rfl rfl ?_
      refine wq_aload_n (pc := 66) dX1_book_66 rfl rfl ?_
      obtain ⟨w30, V⟩ := V
      refine gfq575 (pc := 67) rfl dX1_book_67 w30 V (fun y29 V => ?_)
      refine pfq217 (pc := 70) rfl dX1_book_70 ⟨rfl, rfl⟩ V (fun h31 V => ?_)
      refine wq_iconst (pc := 73) dX1_book_73 gstim1 ?_
      refine wq_iret (pc := 74) dX1_book_74 rfl ⟨_, rfl, V⟩
  · have V := V.2 c
    refine wq_aload_n (pc := 12) dX1_book_12 rfl rfl ?_
    refine wq_iconst (pc := 13) dX1_book_13 gsti2 ?_
    obtain ⟨fs76, w77, V⟩ := V
    refine clq259 (pc := 14) (As := [.int (2 : Int32)]) (st := []) rfl dX1_book_14 rfl (Nat.le_of_ble_eq_true rfl) w77 V (fun C73 S74 => wx_ki (fun y75 h72 V => ?_))
    refine wq_iret (pc := 17) dX1_book_17 rfl ⟨_, rfl, V⟩
theorem vX1_in_0 {G : wq_G} {l : Launch} {d C S : Nat} {K : Int32 → wq_H → Prop} {x0 : Int32} {x1 : Int32} {x2 : Int32} {h : wq_H} (V : (x0 < x1 → K (0 : Int32) h) ∧ (¬ x0 < x1 → (x2 < x0 → K (0 : Int32) h) ∧ (¬ x2 < x0 → K (1 : Int32) h))) : wq_T G l d mX1_in (wq_qi K) 0 [some (.int x0), some (.int x1), some (.int x2)] [] h C S := by
  refine wq_iload_n (pc := 0) dX1_in_0 rfl rfl ?_
  refine wq_iload_n (pc := 1) dX1_in_1 rfl rfl ?_
  refine wq_icmp_lt (pc := 2) (tgt := 14) dX1_in_2 rfl (fun c => ?_) (fun c => ?_)
  · have V := V.1 c
    refine wq_iconst (pc := 14) dX1_in_14 gsti0 ?_
    refine wq_zret (pc := 15) dX1_in_15 rfl gn_b0 ⟨_, rfl, V⟩
  · have V := V.2 c
    refine wq_iload_n (pc := 5) dX1_in_5 rfl rfl ?_
    refine wq_iload_n (pc := 6) dX1_in_6 rfl rfl ?_
    refine wq_icmp_gt (pc := 7) (tgt := 14) dX1_in_7 rfl (fun c => ?_) (fun c => ?_)
    · have V := V.1 c
      refine wq_iconst (pc := 14) dX1_in_14 gsti0 ?_
      refine wq_zret (pc := 15) dX1_in_15 rfl gn_b0 ⟨_, rfl, V⟩
    · have V := V.2 c
      refine wq_iconst (pc := 10) dX1_in_10 gsti1 ?_
      refine wq_goto (pc := 11) (tgt := 15) dX1_in_11 rfl ?_
      refine wq_zret (pc := 15) dX1_in_15 rfl gn_b1 ⟨_, rfl, V⟩
theorem vX1_refused_0 {G : wq_G} {l : Launch} {d C S : Nat} {K : Int32 → wq_H → Prop} {x0 : Nat} {x1 : Int32} {h : wq_H} (V : wq_pf G h x0 [(0, 4)] (.int x1) (fun h1 => wq_pf G h1 x0 [(0, 3)] (.int (-1 : Int32)) (fun h2 => K (-1 : Int32) h2))) : wq_T G l d mX1_refused (wq_qi K) 0 [some (.ref x0), some (.int x1)] [] h C S := by
  refine wq_aload_n (pc := 0) dX1_refused_0 rfl rfl ?_
  refine wq_iload_n (pc := 1) dX1_refused_1 rfl rfl ?_
  refine pfq218 (pc := 2) rfl dX1_refused_2 ⟨rfl, rfl⟩ V (fun h1 V => ?_)
  refine wq_aload_n (pc := 5) dX1_refused_5 rfl rfl ?_
  refine wq_iconst (pc := 6) dX1_refused_6 gstim1 ?_
  refine pfq217 (pc := 7) rfl dX1_refused_7 ⟨rfl, rfl⟩ V (fun h2 V => ?_)
  refine wq_iconst (pc := 10) dX1_refused_10 gstim1 ?_
  refine wq_iret (pc := 11) dX1_refused_11 rfl ⟨_, rfl, V⟩
theorem vX1_has_0 {G : wq_G} {l : Launch} {d C S : Nat} {K : Int32 → wq_H → Prop} {x0 : Int32} {x1 : Int32} {h : wq_H} (V : (¬ ((x0 >>> (x1 &&& 31)) &&& (1 : Int32)) = (1 : Int32) → K (0 : Int32) h) ∧ (((x0 >>> (x1 &&& 31)) &&& (1 : Int32)) = (1 : Int32) → K (1 : Int32) h)) : wq_T G l d mX1_has (wq_qi K) 0 [some (.int x0), some (.int x1)] [] h C S := by
  refine wq_iload_n (pc := 0) dX1_has_0 rfl rfl ?_
  refine wq_iload_n (pc := 1) dX1_has_1 rfl rfl ?_
  refine wq_ishr (pc := 2) dX1_has_2 ?_
  refine wq_iconst (pc := 3) dX1_has_3 gsti1 ?_
  refine wq_iand (pc := 4) dX1_has_4 ?_
  refine wq_iconst (pc := 5) dX1_has_5 gsti1 ?_
  refine wq_icmp_ne (pc := 6) (tgt := 13) dX1_has_6 rfl (fun c => ?_) (fun c => ?_)
  · have V := V.1 c
    refine wq_iconst (pc := 13) dX1_has_13 gsti0 ?_
    refine wq_zret (pc := 14) dX1_has_14 rfl gn_b0 ⟨_, rfl, V⟩
  · have V := V.2 c
    refine wq_iconst (pc := 9) dX1_has_9 gsti1 ?_
    refine wq_goto (pc := 10) (tgt := 14) dX1_has_10 rfl ?_
    refine wq_zret (pc := 14) dX1_has_14 rfl gn_b1 ⟨_, rfl, V⟩
theorem vX1_well_0 {G : wq_G} {l : Launch} {d C S : Nat} {K : Int32 → wq_H → Prop} {x0 : Nat} {x1 : Int32} {h : wq_H} (V : wq_pf G h x0 [(0, 4)] (.int (0 : Int32)) (fun h1 => wq_pf G h1 x0 [(0, 3)] (.int (-1 : Int32)) (fun h2 => K x1 h2))) : wq_T G l d mX1_well (wq_qi K) 0 [some (.ref x0), some (.int x1)] [] h C S := by
  refine wq_aload_n (pc := 0) dX1_well_0 rfl rfl ?_
  refine wq_iconst (pc := 1) dX1_well_1 gsti0 ?_
  refine pfq218 (pc := 2) rfl dX1_well_2 ⟨rfl, rfl⟩ V (fun h1 V => ?_)
  refine wq_aload_n (pc := 5) dX1_well_5 rfl rfl ?_
  refine wq_iconst (pc := 6) dX1_well_6 gstim1 ?_
  refine pfq217 (pc := 7) rfl dX1_well_7 ⟨rfl, rfl⟩ V (fun h2 V => ?_)
  refine wq_iload_n (pc := 10) dX1_well_10 rfl rfl ?_
  refine wq_iret (pc := 11) dX1_well_11 rfl ⟨_, rfl, V⟩
theorem vX1_fault_0 {G : wq_G} {l : Launch} {d C S : Nat} {K : Int32 → wq_H → Prop} {x0 : Nat} {h : wq_H} (V : wq_gI h x0 [(0, 2)] (fun y1 => K y1 h)) : wq_T G l d mX1_fault (wq_qi K) 0 [some (.ref x0)] [] h C S := by
  refine wq_aload_n (pc := 0) dX1_fault_0 rfl rfl ?_
  refine gfq216 (pc := 1) rfl dX1_fault_1 V (fun y1 V => ?_)
  refine wq_iret (pc := 4) dX1_fault_4 rfl ⟨_, rfl, V⟩
theorem vX1_where_0 {G : wq_G} {l : Launch} {d C S : Nat} {K : Int32 → wq_H → Prop} {x0 : Nat} {h : wq_H} (V : wq_gI h x0 [(0, 3)] (fun y1 => K y1 h)) : wq_T G l d mX1_where (wq_qi K) 0 [some (.ref x0)] [] h C S := by
  refine wq_aload_n (pc := 0) dX1_where_0 rfl rfl ?_
  refine gfq217 (pc := 1) rfl dX1_where_1 V (fun y1 V => ?_)
  refine wq_iret (pc := 4) dX1_where_4 rfl ⟨_, rfl, V⟩
theorem vX1_share_0 {G : wq_G} {l : Launch} {d C S : Nat} {K : Int32 → wq_H → Prop} {x0 : Nat} {x1 : Int32} {h : wq_H} (V : wq_gQ h x0 [(0, 5)] (fun r1 => (r1 = none → ∃ fs7 : List Value, h x0 = some (.inr (0, fs7)) ∧ (wq_ci G l d C S mX1_refused [.ref x0, .int (1 : Int32)] h (fun y6 h3 C4 S5 => K y6 h3))) ∧ (∀ a2, r1 = some a2 → ∃ fs13 : List Value, h x0 = some (.inr (0, fs13)) ∧ (wq_cj G l d C S mX1_measures [.ref x0] h (fun y12 h9 C10 S11 => wq_gQ h9 x0 [(0, 5)] (fun r15 => ∃ a16, r15 = some a16 ∧ (wq_gI h9 a16 [(5, 0)] (fun y18 => wq_gR h9 x0 [(0, 7)] (fun a19 => wq_gJ h9 a19 [(1, 5)] (fun y20 => wq_ci G l d C10 S11 mX1_lowest [.long y12, .long (y18.toInt64 * y20), .int x1] h9 (fun y24 h21 C22 S23 => ∃ fs29 : List Value, h21 x0 = some (.inr (0, fs29)) ∧ (wq_ci G l d C22 S23 mX1_well [.ref x0, .int y24] h21 (fun y28 h25 C26 S27 => K y28 h25))))))))))))) : wq_T G l d mX1_share (wq_qi K) 0 [some (.ref x0), some (.int x1), none, none] [] h C S := by
  refine wq_aload_n (pc := 0) dX1_share_0 rfl rfl ?_
  refine gfq219 (pc := 1) rfl dX1_share_1 V (fun r1 V => ?_)
  refine wq_ifnonnull (pc := 4) (tgt := 13) dX1_share_4 rfl (fun a2 c => ?_) (fun c => ?_)
  · subst c
    have V := V.2 a2 rfl
    refine wq_aload_n (pc := 13) dX1_share_13 rfl rfl ?_
    obtain ⟨fs13, w14, V⟩ := V
    refine clq993 (pc := 14) (As := []) (st := []) rfl dX1_share_14 rfl (Nat.le_of_ble_eq_true rfl) w14 V (fun C10 S11 => wx_kj (fun y12 h9 V => ?_))
    refine wq_lstore_n (L' := [some (.ref x0), some (.int x1), some (.long y12), none]) (pc := 17) dX1_share_17 rfl (Nat.le_of_ble_eq_true rfl) rfl ?_
    refine wq_aload_n (pc := 18) dX1_share_18 rfl rfl ?_
    refine wq_lload_n (pc := 19) dX1_share_19 rfl rfl ?_
    refine wq_aload_n (pc := 20) dX1_share_20 rfl rfl ?_
    refine gfq219 (pc := 21) rfl dX1_share_21 V (fun r15 V => ?_)
    obtain ⟨a16, w17, V⟩ := V
    rw [w17]
    refine gfq308 (pc := 24) rfl dX1_share_24 V (fun y18 V => ?_)
    refine wq_i2l (pc := 27) dX1_share_27 ?_
    refine wq_aload_n (pc := 28) dX1_share_28 rfl rfl ?_
    refine gfq221 (pc := 29) rfl dX1_share_29 V (fun a19 V => ?_)
    refine gfq171 (pc := 32) rfl dX1_share_32 V (fun y20 V => ?_)
    refine wq_lmul (pc := 35) dX1_share_35 ?_
    refine wq_iload_n (pc := 36) dX1_share_36 rfl rfl ?_
    refine clq1049 (pc := 37) (As := [.long y12, .long (y18.toInt64 * y20), .int x1]) (st := [.ref x0]) rfl dX1_share_37 rfl (Nat.le_of_ble_eq_true rfl) V (fun C22 S23 => wx_ki (fun y24 h21 V => ?_))
    obtain ⟨fs29, w30, V⟩ := V
    refine clq977 (pc := 40) (As := [.int y24]) (st := []) rfl dX1_share_40 rfl (Nat.le_of_ble_eq_true rfl) w30 V (fun C26 S27 => wx_ki (fun y28 h25 V => ?_))
    refine wq_iret (pc := 43) dX1_share_43 rfl ⟨_, rfl, V⟩
  · subst c
    have V := V.1 rfl
    refine wq_aload_n (pc := 7) dX1_share_7 rfl rfl ?_
    refine wq_iconst (pc := 8) dX1_share_8 gsti1 ?_
    obtain ⟨fs7, w8, V⟩ := V
    refine clq259 (pc := 9) (As := [.int (1 : Int32)]) (st := []) rfl dX1_share_9 rfl (Nat.le_of_ble_eq_true rfl) w8 V (fun C4 S5 => wx_ki (fun y6 h3 V => ?_))
    refine wq_iret (pc := 12) dX1_share_12 rfl ⟨_, rfl, V⟩
theorem vX1_measures_0 {G : wq_G} {l : Launch} {d C S : Nat} {K : Int64 → wq_H → Prop} {x0 : Nat} {h : wq_H} (V : wq_gR h x0 [(0, 7)] (fun a1 => wq_gR h x0 [(0, 6)] (fun a2 => wq_gQ h x0 [(0, 5)] (fun r3 => ∃ a4, r3 = some a4 ∧ (∃ fs10 : List Value, h a4 = some (.inr (5, fs10)) ∧ (wq_ci G l d C S mX6_hiddens [.ref a4] h (fun y9 h6 C7 S8 => wq_gQ h6 x0 [(0, 5)] (fun r12 => ∃ a13, r12 = some a13 ∧ (wq_gI h6 a13 [(5, 0)] (fun y15 => ∃ fs19 : List Value, h6 a1 = some (.inr (1, fs19)) ∧ (wq_cw G l d C7 S8 mX2_lays [.ref a1, .ref a2, .int y9, .int y15] h6 (fun h16 C17 S18 => wq_gR h16 x0 [(0, 7)] (fun a21 => ∃ fs26 : List Value, h16 a21 = some (.inr (1, fs26)) ∧ (wq_cj G l d C17 S18 mX2_most [.ref a21, .int (0 : Int32)] h16 (fun y25 h22 C23 S24 => K y25 h22))))))))))))))) : wq_T G l d mX1_measures (wq_qj K) 0 [some (.ref x0)] [] h C S := by
  refine wq_aload_n (pc := 0) dX1_measures_0 rfl rfl ?_
  refine gfq221 (pc := 1) rfl dX1_measures_1 V (fun a1 V => ?_)
  refine wq_aload_n (pc := 4) dX1_measures_4 rfl rfl ?_
  refine gfq220 (pc := 5) rfl dX1_measures_5 V (fun a2 V => ?_)
  refine wq_aload_n (pc := 8) dX1_measures_8 rfl rfl ?_
  refine gfq219 (pc := 9) rfl dX1_measures_9 V (fun r3 V => ?_)
  obtain ⟨a4, w5, V⟩ := V
  rw [w5]
  obtain ⟨fs10, w11, V⟩ := V
  refine clq997 (pc := 12) (As := []) (st := [.ref a2, .ref a1]) rfl dX1_measures_12 rfl (Nat.le_of_ble_eq_true rfl) w11 V (fun C7 S8 => wx_ki (fun y9 h6 V => ?_))
  refine wq_aload_n (pc := 15) dX1_measures_15 rfl rfl ?_
  refine gfq219 (pc := 16) rfl dX1_measures_16 V (fun r12 V => ?_)
  obtain ⟨a13, w14, V⟩ := V
  rw [w14]
  refine gfq308 (pc := 19) rfl dX1_measures_19 V (fun y15 V => ?_)
  obtain ⟨fs19, w20, V⟩ := V
  refine clq1001 (pc := 22) (As := [.ref a2, .int y9, .int y15]) (st := []) rfl dX1_measures_22 rfl (Nat.le_of_ble_eq_true rfl) w20 V (fun C17 S18 => wx_kv (fun h16 V => ?_))
  refine wq_aload_n (pc := 25) dX1_measures_25 rfl rfl ?_
  refine gfq221 (pc := 26) rfl dX1_measures_26 V (fun a21 V => ?_)
  refine wq_iconst (pc := 29) dX1_measures_29 gsti0 ?_
  obtain ⟨fs26, w27, V⟩ := V
  refine clq1025 (pc := 30) (As := [.int (0 : Int32)]) (st := []) rfl dX1_measures_30 rfl (Nat.le_of_ble_eq_true rfl) w27 V (fun C23 S24 => wx_kj (fun y25 h22 V => ?_))
  refine wq_lret (pc := 33) dX1_measures_33 rfl ⟨_, rfl, V⟩
theorem vX1_lowest_0 {G : wq_G} {l : Launch} {d C S : Nat} {K : Int32 → wq_H → Prop} {x0 : Int64} {x2 : Int64} {x4 : Int32} {h : wq_H} (V : wq_cj G l d C S mX1_divisor [.long x0, .long x2] h (fun y4 h1 C2 S3 => (x4 = 0 → ¬ y4 = 0 ∧ (K ((x0 / y4).toInt32) h1)) ∧ (¬ x4 = 0 → ¬ y4 = 0 ∧ (K ((x2 / y4).toInt32) h1)))) : wq_T G l d mX1_lowest (wq_qi K) 0 [some (.long x0), none, some (.long x2), none, some (.int x4), none, none] [] h C S := by
  refine wq_lload_n (pc := 0) dX1_lowest_0 rfl rfl ?_
  refine wq_lload_n (pc := 1) dX1_lowest_1 rfl rfl ?_
  refine clq1052 (pc := 2) (As := [.long x0, .long x2]) (st := []) rfl dX1_lowest_2 rfl (Nat.le_of_ble_eq_true rfl) V (fun C2 S3 => wx_kj (fun y4 h1 V => ?_))
  refine wq_lstore (L' := [some (.long x0), none, some (.long x2), none, some (.int x4), some (.long y4), none]) (pc := 5) dX1_lowest_5 (Nat.le_of_ble_eq_true rfl) rfl ?_
  refine wq_iload (pc := 7) dX1_lowest_7 rfl ?_
  refine wq_if_eq (pc := 9) (tgt := 16) dX1_lowest_9 rfl (fun c => ?_) (fun c => ?_)
  · have V := V.1 c
    refine wq_lload_n (pc := 16) dX1_lowest_16 rfl rfl ?_
    refine wq_lload (pc := 17) dX1_lowest_17 rfl ?_
    obtain ⟨w5, V⟩ := V
    refine wq_ldiv (pc := 19) dX1_lowest_19 w5 ?_
    refine wq_l2i (pc := 20) dX1_lowest_20 ?_
    refine wq_iret (pc := 21) dX1_lowest_21 rfl ⟨_, rfl, V⟩
  · have V := V.2 c
    refine wq_lload_n (pc := 12) dX1_lowest_12 rfl rfl ?_
    refine wq_goto (pc := 13) (tgt := 17) dX1_lowest_13 rfl ?_
    refine wq_lload (pc := 17) dX1_lowest_17 rfl ?_
    obtain ⟨w6, V⟩ := V
    refine wq_ldiv (pc := 19) dX1_lowest_19 w6 ?_
    refine wq_l2i (pc := 20) dX1_lowest_20 ?_
    refine wq_iret (pc := 21) dX1_lowest_21 rfl ⟨_, rfl, V⟩
theorem vX1_divisor_0 {G : wq_G} {l : Launch} {d C S : Nat} {K : Int64 → wq_H → Prop} {x0 : Int64} {x2 : Int64} {h : wq_H} (V : wq_T G l d mX1_divisor (wq_qj K) 6 [none, none, none, none, some (.long x0), none, some (.long x2), none, none, none] [] h C S) : wq_T G l d mX1_divisor (wq_qj K) 0 [some (.long x0), none, some (.long x2), none, none, none, none, none, none, none] [] h C S := by
  refine wq_lload_n (pc := 0) dX1_divisor_0 rfl rfl ?_
  refine wq_lstore (L' := [some (.long x0), none, some (.long x2), none, some (.long x0), none, none, none, none, none]) (pc := 1) dX1_divisor_1 (Nat.le_of_ble_eq_true rfl) rfl ?_
  refine wq_lload_n (pc := 3) dX1_divisor_3 rfl rfl ?_
  refine wq_lstore (L' := [some (.long x0), none, some (.long x2), none, some (.long x0), none, some (.long x2), none, none, none]) (pc := 4) dX1_divisor_4 (Nat.le_of_ble_eq_true rfl) rfl ?_
  exact wq_T.less V ⟨rfl, ⟨rfl, trivial⟩⟩
theorem vX1_divisor_6 {G : wq_G} {l : Launch} {d C S : Nat} {K : Int64 → wq_H → Prop} {x4 : Int64} {x6 : Int64} {h : wq_H} (V : ((lg_cmp x6 (0 : Int64)) = 0 → K x4 h) ∧ (¬ (lg_cmp x6 (0 : Int64)) = 0 → ¬ x6 = 0 ∧ (wq_T G l d mX1_divisor (wq_qj K) 6 [none, none, none, none, some (.long x6), none, some (.long (x4 - x4 / x6 * x6)), none, none, none] [] h C S))) : wq_T G l d mX1_divisor (wq_qj K) 6 [none, none, none, none, some (.long x4), none, some (.long x6), none, none, none] [] h C S := by
  refine wq_lload (pc := 6) dX1_divisor_6 rfl ?_
  refine wq_lconst (pc := 8) dX1_divisor_8 gstl0 ?_
  refine wq_lcmp (pc := 9) dX1_divisor_9 ?_
  refine wq_if_eq (pc := 10) (tgt := 31) dX1_divisor_10 rfl (fun c => ?_) (fun c => ?_)
  · have V := V.1 c
    refine wq_lload (pc := 31) dX1_divisor_31 rfl ?_
    refine wq_lret (pc := 33) dX1_divisor_33 rfl ⟨_, rfl, V⟩
  · have V := V.2 c
    refine wq_lload (pc := 13) dX1_divisor_13 rfl ?_
    refine wq_lload (pc := 15) dX1_divisor_15 rfl ?_
    obtain ⟨w1, V⟩ := V
    refine wq_lrem (pc := 17) dX1_divisor_17 w1 ?_
    refine wq_lstore (L' := [none, none, none, none, some (.long x4), none, some (.long x6), none, some (.long (x4 - x4 / x6 * x6)), none]) (pc := 18) dX1_divisor_18 (Nat.le_of_ble_eq_true rfl) rfl ?_
    refine wq_lload (pc := 20) dX1_divisor_20 rfl ?_
    refine wq_lstore (L' := [none, none, none, none, some (.long x6), none, some (.long x6), none, some (.long (x4 - x4 / x6 * x6)), none]) (pc := 22) dX1_divisor_22 (Nat.le_of_ble_eq_true rfl) rfl ?_
    refine wq_lload (pc := 24) dX1_divisor_24 rfl ?_
    refine wq_lstore (L' := [none, none, none, none, some (.long x6), none, some (.long (x4 - x4 / x6 * x6)), none, some (.long (x4 - x4 / x6 * x6)), none]) (pc := 26) dX1_divisor_26 (Nat.le_of_ble_eq_true rfl) rfl ?_
    refine wq_goto (pc := 28) (tgt := 6) dX1_divisor_28 rfl ?_
    exact wq_T.less V ⟨rfl, ⟨rfl, trivial⟩⟩
theorem vX1_together_0 {G : wq_G} {l : Launch} {d C S : Nat} {K : Int32 → wq_H → Prop} {x0 : Nat} {x1 : Int32} {x2 : Int32} {x3 : Int32} {x4 : Int32} {x5 : Int32} {x6 : Int32} {h : wq_H} (V : ∃ fs5 : List Value, h x0 = some (.inr (0, fs5)) ∧ (wq_ci G l d C S mX1_isLook [.ref x0, .int x1] h (fun y4 h1 C2 S3 => (y4 = 0 → ∃ fs11 : List Value, h1 x0 = some (.inr (0, fs11)) ∧ (wq_ci G l d C2 S3 mX1_refused [.ref x0, .int (1 : Int32)] h1 (fun y10 h7 C8 S9 => K y10 h7))) ∧ (¬ y4 = 0 → ∃ fs17 : List Value, h1 x0 = some (.inr (0, fs17)) ∧ (wq_ci G l d C2 S3 mX1_isLook [.ref x0, .int x3] h1 (fun y16 h13 C14 S15 => (y16 = 0 → ∃ fs23 : List Value, h13 x0 = some (.inr (0, fs23)) ∧ (wq_ci G l d C14 S15 mX1_refused [.ref x0, .int (1 : Int32)] h13 (fun y22 h19 C20 S21 => K y22 h19))) ∧ (¬ y16 = 0 → (x1 = x3 → ∃ fs29 : List Value, h13 x0 = some (.inr (0, fs29)) ∧ (wq_ci G l d C14 S15 mX1_refused [.ref x0, .int (1 : Int32)] h13 (fun y28 h25 C26 S27 => K y28 h25))) ∧ (¬ x1 = x3 → wq_ci G l d C14 S15 mX1_in [.int x2, .int (0 : Int32), .int (1 : Int32)] h13 (fun y34 h31 C32 S33 => (y34 = 0 → ∃ fs39 : List Value, h31 x0 = some (.inr (0, fs39)) ∧ (wq_ci G l d C32 S33 mX1_refused [.ref x0, .int (1 : Int32)] h31 (fun y38 h35 C36 S37 => K y38 h35))) ∧ (¬ y34 = 0 → wq_ci G l d C32 S33 mX1_in [.int x4, .int (0 : Int32), .int (1 : Int32)] h31 (fun y44 h41 C42 S43 => (¬ y44 = 0 → wq_gR h41 x0 [(0, 7)] (fun a45 => wq_gR h41 x0 [(0, 6)] (fun a46 => wq_gQ h41 x0 [(0, 5)] (fun r47 => ∃ a48, r47 = some a48 ∧ (∃ fs54 : List Value, h41 a48 = some (.inr (5, fs54)) ∧ (wq_ci G l d C42 S43 mX6_hiddens [.ref a48] h41 (fun y53 h50 C51 S52 => wq_gQ h50 x0 [(0, 5)] (fun r56 => ∃ a57, r56 = some a57 ∧ (wq_gI h50 a57 [(5, 0)] (fun y59 => ∃ fs63 : List Value, h50 a45 = some (.inr (1, fs63)) ∧ (wq_cw G l d C51 S52 mX2_lays [.ref a45, .ref a46, .int y53, .int y59] h50 (fun h60 C61 S62 => wq_T G l d mX1_together (wq_qi K) 74 [some (.ref x0), some (.int x1), some (.int x2), some (.int x3), some (.int x4), some (.int x5), some (.int x6), some (.int (0 : Int32)), none] [] h60 C61 S62)))))))))))) ∧ (y44 = 0 → ∃ fs69 : List Value, h41 x0 = some (.inr (0, fs69)) ∧ (wq_ci G l d C42 S43 mX1_refused [.ref x0, .int (1 : Int32)] h41 (fun y68 h65 C66 S67 => K y68 h65)))))))))))))) : wq_T G l d mX1_together (wq_qi K) 0 [some (.ref x0), some (.int x1), some (.int x2), some (.int x3), some (.int x4), some (.int x5), some (.int x6), none, none] [] h C S := by
  refine wq_aload_n (pc := 0) dX1_together_0 rfl rfl ?_
  refine wq_iload_n (pc := 1) dX1_together_1 rfl rfl ?_
  obtain ⟨fs5, w6, V⟩ := V
  refine clq1059 (pc := 2) (As := [.int x1]) (st := []) rfl dX1_together_2 rfl (Nat.le_of_ble_eq_true rfl) w6 V (fun C2 S3 => wx_ki (fun y4 h1 V => ?_))
  refine wq_if_eq (pc := 5) (tgt := 40) dX1_together_5 rfl (fun c => ?_) (fun c => ?_)
  · have V := V.1 c
    refine wq_aload_n (pc := 40) dX1_together_40 rfl rfl ?_
    refine wq_iconst (pc := 41) dX1_together_41 gsti1 ?_
    obtain ⟨fs11, w12, V⟩ := V
    refine clq259 (pc := 42) (As := [.int (1 : Int32)]) (st := []) rfl dX1_together_42 rfl (Nat.le_of_ble_eq_true rfl) w12 V (fun C8 S9 => wx_ki (fun y10 h7 V => ?_))
    refine wq_iret (pc := 45) dX1_together_45 rfl ⟨_, rfl, V⟩
  · have V := V.2 c
    refine wq_aload_n (pc := 8) dX1_together_8 rfl rfl ?_
    refine wq_iload_n (pc := 9) dX1_together_9 rfl rfl ?_
    obtain ⟨fs17, w18, V⟩ := V
    refine clq1059 (pc := 10) (As := [.int x3]) (st := []) rfl dX1_together_10 rfl (Nat.le_of_ble_eq_true rfl) w18 V (fun C14 S15 => wx_ki (fun y16 h13 V => ?_))
    refine wq_if_eq (pc := 13) (tgt := 40) dX1_together_13 rfl (fun c => ?_) (fun c => ?_)
    · have V := V.1 c
      refine wq_aload_n (pc := 40) dX1_together_40 rfl rfl ?_
      refine wq_iconst (pc := 41) dX1_together_41 gsti1 ?_
      obtain ⟨fs23, w24, V⟩ := V
      refine clq259 (pc := 42) (As := [.int (1 : Int32)]) (st := []) rfl dX1_together_42 rfl (Nat.le_of_ble_eq_true rfl) w24 V (fun C20 S21 => wx_ki (fun y22 h19 V => ?_))
      refine wq_iret (pc := 45) dX1_together_45 rfl ⟨_, rfl, V⟩
    · have V := V.2 c
      refine wq_iload_n (pc := 16) dX1_together_16 rfl rfl ?_
      refine wq_iload_n (pc := 17) dX1_together_17 rfl rfl ?_
      refine wq_icmp_eq (pc := 18) (tgt := 40) dX1_together_18 rfl (fun c => ?_) (fun c => ?_)
      · have V := V.1 c
        refine wq_aload_n (pc := 40) dX1_together_40 rfl rfl ?_
        refine wq_iconst (pc := 41) dX1_together_41 gsti1 ?_
        obtain ⟨fs29, w30, V⟩ := V
        refine clq259 (pc := 42) (As := [.int (1 : Int32)]) (st := []) rfl dX1_together_42 rfl (Nat.le_of_ble_eq_true rfl) w30 V (fun C26 S27 => wx_ki (fun y28 h25 V => ?_))
        refine wq_iret (pc := 45) dX1_together_45 rfl ⟨_, rfl, V⟩
      · have V := V.2 c
        refine wq_iload_n (pc := 21) dX1_together_21 rfl rfl ?_
        refine wq_iconst (pc := 22) dX1_together_22 gsti0 ?_
        refine wq_iconst (pc := 23) dX1_together_23 gsti1 ?_
        refine clq256 (pc := 24) (As := [.int x2, .int (0 : Int32), .int (1 : Int32)]) (st := []) rfl dX1_together_24 rfl (Nat.le_of_ble_eq_true rfl) V (fun C32 S33 => wx_ki (fun y34 h31 V => ?_))
        refine wq_if_eq (pc := 27) (tgt := 40) dX1_together_27 rfl (fun c => ?_) (fun c => ?_)
        · have V := V.1 c
          refine wq_aload_n (pc := 40) dX1_together_40 rfl rfl ?_
          refine wq_iconst (pc := 41) dX1_together_41 gsti1 ?_
          obtain ⟨fs39, w40, V⟩ := V
          refine clq259 (pc := 42) (As := [.int (1 : Int32)]) (st := []) rfl dX1_together_42 rfl (Nat.le_of_ble_eq_true rfl) w40 V (fun C36 S37 => wx_ki (fun y38 h35 V => ?_))
          refine wq_iret (pc := 45) dX1_together_45 rfl ⟨_, rfl, V⟩
        · have V := V.2 c
          refine wq_iload (pc := 30) dX1_together_30 rfl ?_
          refine wq_iconst (pc := 32) dX1_together_32 gsti0 ?_
          refine wq_iconst (pc := 33) dX1_together_33 gsti1 ?_
          refine clq256 (pc := 34) (As := [.int x4, .int (0 : Int32), .int (1 : Int32)]) (st := []) rfl dX1_together_34 rfl (Nat.le_of_ble_eq_true rfl) V (fun C42 S43 => wx_ki (fun y44 h41 V => ?_))
          refine wq_if_ne (pc := 37) (tgt := 46) dX1_together_37 rfl (fun c => ?_) (fun c => ?_)
          · have V := V.1 c
            refine wq_aload_n (pc := 46) dX1_together_46 rfl rfl ?_
            refine gfq221 (pc := 47) rfl dX1_together_47 V (fun a45 V => ?_)
            refine wq_aload_n (pc := 50) dX1_together_50 rfl rfl ?_
            refine gfq220 (pc := 51) rfl dX1_together_51 V (fun a46 V => ?_)
            refine wq_aload_n (pc := 54) dX1_together_54 rfl rfl ?_
            refine gfq219 (pc := 55) rfl dX1_together_55 V (fun r47 V => ?_)
            obtain ⟨a48, w49, V⟩ := V
            rw [w49]
            obtain ⟨fs54, w55, V⟩ := V
            refine clq997 (pc := 58) (As := []) (st := [.ref a46, .ref a45]) rfl dX1_together_58 rfl (Nat.le_of_ble_eq_true rfl) w55 V (fun C51 S52 => wx_ki (fun y53 h50 V => ?_))
            refine wq_aload_n (pc := 61) dX1_together_61 rfl rfl ?_
            refine gfq219 (pc := 62) rfl dX1_together_62 V (fun r56 V => ?_)
            obtain ⟨a57, w58, V⟩ := V
            rw [w58]
            refine gfq308 (pc := 65) rfl dX1_together_65 V (fun y59 V => ?_)
            obtain ⟨fs63, w64, V⟩ := V
            refine clq1001 (pc := 68) (As := [.ref a46, .int y53, .int y59]) (st := []) rfl dX1_together_68 rfl (Nat.le_of_ble_eq_true rfl) w64 V (fun C61 S62 => wx_kv (fun h60 V => ?_))
            refine wq_iconst (pc := 71) dX1_together_71 gsti0 ?_
            refine wq_istore (L' := [some (.ref x0), some (.int x1), some (.int x2), some (.int x3), some (.int x4), some (.int x5), some (.int x6), some (.int (0 : Int32)), none]) (pc := 72) dX1_together_72 (Nat.le_of_ble_eq_true rfl) rfl ?_
            exact wq_T.less V ⟨rfl, ⟨rfl, ⟨rfl, ⟨rfl, ⟨rfl, ⟨rfl, ⟨rfl, ⟨rfl, trivial⟩⟩⟩⟩⟩⟩⟩⟩
          · have V := V.2 c
            refine wq_aload_n (pc := 40) dX1_together_40 rfl rfl ?_
            refine wq_iconst (pc := 41) dX1_together_41 gsti1 ?_
            obtain ⟨fs69, w70, V⟩ := V
            refine clq259 (pc := 42) (As := [.int (1 : Int32)]) (st := []) rfl dX1_together_42 rfl (Nat.le_of_ble_eq_true rfl) w70 V (fun C66 S67 => wx_ki (fun y68 h65 V => ?_))
            refine wq_iret (pc := 45) dX1_together_45 rfl ⟨_, rfl, V⟩
theorem vX1_together_74 {G : wq_G} {l : Launch} {d C S : Nat} {K : Int32 → wq_H → Prop} {x0 : Nat} {x1 : Int32} {x2 : Int32} {x3 : Int32} {x4 : Int32} {x5 : Int32} {x6 : Int32} {x7 : Int32} {h : wq_H} (V : wq_gQ h x0 [(0, 5)] (fun r1 => ∃ a2, r1 = some a2 ∧ (∃ fs8 : List Value, h a2 = some (.inr (5, fs8)) ∧ (wq_ci G l d C S mX6_hiddens [.ref a2] h (fun y7 h4 C5 S6 => (y7 ≤ x7 → wq_gR h4 x0 [(0, 7)] (fun a10 => ∃ fs15 : List Value, h4 a10 = some (.inr (1, fs15)) ∧ (wq_cj G l d C5 S6 mX2_most [.ref a10, .int (0 : Int32)] h4 (fun y14 h11 C12 S13 => wq_gQ h11 x0 [(0, 5)] (fun r17 => ∃ a18, r17 = some a18 ∧ (wq_gI h11 a18 [(5, 0)] (fun y20 => wq_gR h11 x0 [(0, 7)] (fun a21 => wq_gJ h11 a21 [(1, 5)] (fun y22 => ((lg_cmp y14 (y20.toInt64 * y22)) = 0 → wq_gR h11 x0 [(0, 7)] (fun a23 => ∃ fs28 : List Value, h11 a23 = some (.inr (1, fs28)) ∧ (wq_cj G l d C12 S13 mX2_most [.ref a23, .int (1 : Int32)] h11 (fun y27 h24 C25 S26 => (x5 = 0 → wq_gQ h24 x0 [(0, 5)] (fun r30 => ∃ a31, r30 = some a31 ∧ (wq_gI h24 a31 [(5, 0)] (fun y33 => wq_gR h24 x0 [(0, 7)] (fun a34 => wq_gJ h24 a34 [(1, 5)] (fun y35 => wq_ci G l d C25 S26 mX1_lowest [.long (-y27), .long (y33.toInt64 * y35), .int x6] h24 (fun y39 h36 C37 S38 => ∃ fs44 : List Value, h36 x0 = some (.inr (0, fs44)) ∧ (wq_ci G l d C37 S38 mX1_well [.ref x0, .int y39] h36 (fun y43 h40 C41 S42 => K y43 h40))))))))) ∧ (¬ x5 = 0 → wq_gQ h24 x0 [(0, 5)] (fun r46 => ∃ a47, r46 = some a47 ∧ (wq_gI h24 a47 [(5, 0)] (fun y49 => wq_gR h24 x0 [(0, 7)] (fun a50 => wq_gJ h24 a50 [(1, 5)] (fun y51 => wq_ci G l d C25 S26 mX1_lowest [.long y27, .long (y49.toInt64 * y51), .int x6] h24 (fun y55 h52 C53 S54 => ∃ fs60 : List Value, h52 x0 = some (.inr (0, fs60)) ∧ (wq_ci G l d C53 S54 mX1_well [.ref x0, .int y55] h52 (fun y59 h56 C57 S58 => K y59 h56))))))))))))) ∧ (¬ (lg_cmp y14 (y20.toInt64 * y22)) = 0 → ∃ fs66 : List Value, h11 x0 = some (.inr (0, fs66)) ∧ (wq_ci G l d C12 S13 mX1_refused [.ref x0, .int (6 : Int32)] h11 (fun y65 h62 C63 S64 => K y65 h62)))))))))))) ∧ (¬ y7 ≤ x7 → (¬ ((x7 >>> (x1 &&& 31)) &&& (1 : Int32)) = x2 → wq_T G l d mX1_together (wq_qi K) 74 [some (.ref x0), some (.int x1), some (.int x2), some (.int x3), some (.int x4), some (.int x5), some (.int x6), some (.int (x7 + (1 : Int32))), none] [] h4 C5 S6) ∧ (((x7 >>> (x1 &&& 31)) &&& (1 : Int32)) = x2 → (¬ ((x7 >>> (x3 &&& 31)) &&& (1 : Int32)) = x4 → wq_T G l d mX1_together (wq_qi K) 74 [some (.ref x0), some (.int x1), some (.int x2), some (.int x3), some (.int x4), some (.int x5), some (.int x6), some (.int (x7 + (1 : Int32))), none] [] h4 C5 S6) ∧ (((x7 >>> (x3 &&& 31)) &&& (1 : Int32)) = x4 → wq_gR h4 x0 [(0, 7)] (fun a68 => (x5 = 0 → ∃ fs72 : List Value, h4 a68 = some (.inr (1, fs72)) ∧ (wq_cw G l d C5 S6 mX2_wants [.ref a68, .int x7, .long (-1 : Int64)] h4 (fun h69 C70 S71 => wq_T G l d mX1_together (wq_qi K) 74 [some (.ref x0), some (.int x1), some (.int x2), some (.int x3), some (.int x4), some (.int x5), some (.int x6), some (.int (x7 + (1 : Int32))), none] [] h69 C70 S71))) ∧ (¬ x5 = 0 → ∃ fs77 : List Value, h4 a68 = some (.inr (1, fs77)) ∧ (wq_cw G l d C5 S6 mX2_wants [.ref a68, .int x7, .long (1 : Int64)] h4 (fun h74 C75 S76 => wq_T G l d mX1_together (wq_qi K) 74 [some (.ref x0), some (.int x1), some (.int x2), some (.int x3), some (.int x4), some (.int x5), some (.int x6), some (.int (x7 + (1 : Int32))), none] [] h74 C75 S76)))))))))))) : wq_T G l d mX1_together (wq_qi K) 74 [some (.ref x0), some (.int x1), some (.int x2), some (.int x3), some (.int x4), some (.int x5), some (.int x6), some (.int x7), none] [] h C S := by
  refine wq_iload (pc := 74) dX1_together_74 rfl ?_
  refine wq_aload_n (pc := 76) dX1_together_76 rfl rfl ?_
  refine gfq219 (pc := 77) rfl dX1_together_77 V (fun r1 V => ?_)
  obtain ⟨a2, w3, V⟩ := V
  rw [w3]
  obtain ⟨fs8, w9, V⟩ := V
  refine clq997 (pc := 80) (As := []) (st := [.int x7]) rfl dX1_together_80 rfl (Nat.le_of_ble_eq_true rfl) w9 V (fun C5 S6 => wx_ki (fun y7 h4 V => ?_))
  refine wq_icmp_ge (pc := 83) (tgt := 134) dX1_together_83 rfl (fun c => ?_) (fun c => ?_)
  · have V := V.1 c
    refine wq_aload_n (pc := 134) dX1_together_134 rfl rfl ?_
    refine gfq221 (pc := 135) rfl dX1_together_135 V (fun a10 V => ?_)
    refine wq_iconst (pc := 138) dX1_together_138 gsti0 ?_
    obtain ⟨fs15, w16, V⟩ := V
    refine clq1025 (pc := 139) (As := [.int (0 : Int32)]) (st := []) rfl dX1_together_139 rfl (Nat.le_of_ble_eq_true rfl) w16 V (fun C12 S13 => wx_kj (fun y14 h11 V => ?_))
    refine wq_aload_n (pc := 142) dX1_together_142 rfl rfl ?_
    refine gfq219 (pc := 143) rfl dX1_together_143 V (fun r17 V => ?_)
    obtain ⟨a18, w19, V⟩ := V
    rw [w19]
    refine gfq308 (pc := 146) rfl dX1_together_146 V (fun y20 V => ?_)
    refine wq_i2l (pc := 149) dX1_together_149 ?_
    refine wq_aload_n (pc := 150) dX1_together_150 rfl rfl ?_
    refine gfq221 (pc := 151) rfl dX1_together_151 V (fun a21 V => ?_)
    refine gfq171 (pc := 154) rfl dX1_together_154 V (fun y22 V => ?_)
    refine wq_lmul (pc := 157) dX1_together_157 ?_
    refine wq_lcmp (pc := 158) dX1_together_158 ?_
    refine wq_if_eq (pc := 159) (tgt := 169) dX1_together_159 rfl (fun c => ?_) (fun c => ?_)
    · have V := V.1 c
      refine wq_aload_n (pc := 169) dX1_together_169 rfl rfl ?_
      refine gfq221 (pc := 170) rfl dX1_together_170 V (fun a23 V => ?_)
      refine wq_iconst (pc := 173) dX1_together_173 gsti1 ?_
      obtain ⟨fs28, w29, V⟩ := V
      refine clq1025 (pc := 174) (As := [.int (1 : Int32)]) (st := []) rfl dX1_together_174 rfl (Nat.le_of_ble_eq_true rfl) w29 V (fun C25 S26 => wx_kj (fun y27 h24 V => ?_))
      refine wq_lstore (L' := [some (.ref x0), some (.int x1), some (.int x2), some (.int x3), some (.int x4), some (.int x5), some (.int x6), some (.long y27), none]) (pc := 177) dX1_together_177 (Nat.le_of_ble_eq_true rfl) rfl ?_
      refine wq_aload_n (pc := 179) dX1_together_179 rfl rfl ?_
      refine wq_iload (pc := 180) dX1_together_180 rfl ?_
      refine wq_if_eq (pc := 182) (tgt := 190) dX1_together_182 rfl (fun c => ?_) (fun c => ?_)
      · have V := V.1 c
        refine wq_lload (pc := 190) dX1_together_190 rfl ?_
        refine wq_lneg (pc := 192) dX1_together_192 ?_
        refine wq_aload_n (pc := 193) dX1_together_193 rfl rfl ?_
        refine gfq219 (pc := 194) rfl dX1_together_194 V (fun r30 V => ?_)
        obtain ⟨a31, w32, V⟩ := V
        rw [w32]
        refine gfq308 (pc := 197) rfl dX1_together_197 V (fun y33 V => ?_)
        refine wq_i2l (pc := 200) dX1_together_200 ?_
        refine wq_aload_n (pc := 201) dX1_together_201 rfl rfl ?_
        refine gfq221 (pc := 202) rfl dX1_together_202 V (fun a34 V => ?_)
        refine gfq171 (pc := 205) rfl dX1_together_205 V (fun y35 V => ?_)
        refine wq_lmul (pc := 208) dX1_together_208 ?_
        refine wq_iload (pc := 209) dX1_together_209 rfl ?_
        refine clq1049 (pc := 211) (As := [.long (-y27), .long (y33.toInt64 * y35), .int x6]) (st := [.ref x0]) rfl dX1_together_211 rfl (Nat.le_of_ble_eq_true rfl) V (fun C37 S38 => wx_ki (fun y39 h36 V => ?_))
        obtain ⟨fs44, w45, V⟩ := V
        refine clq977 (pc := 214) (As := [.int y39]) (st := []) rfl dX1_together_214 rfl (Nat.le_of_ble_eq_true rfl) w45 V (fun C41 S42 => wx_ki (fun y43 h40 V => ?_))
        refine wq_iret (pc := 217) dX1_together_217 rfl ⟨_, rfl, V⟩
      · have V := V.2 c
        refine wq_lload (pc := 185) dX1_together_185 rfl ?_
        refine wq_goto (pc := 187) (tgt := 193) dX1_together_187 rfl ?_
        refine wq_aload_n (pc := 193) dX1_together_193 rfl rfl ?_
        refine gfq219 (pc := 194) rfl dX1_together_194 V (fun r46 V => ?_)
        obtain ⟨a47, w48, V⟩ := V
        rw [w48]
        refine gfq308 (pc := 197) rfl dX1_together_197 V (fun y49 V => ?_)
        refine wq_i2l (pc := 200) dX1_together_200 ?_
        refine wq_aload_n (pc := 201) dX1_together_201 rfl rfl ?_
        refine gfq221 (pc := 202) rfl dX1_together_202 V (fun a50 V => ?_)
        refine gfq171 (pc := 205) rfl dX1_together_205 V (fun y51 V => ?_)
        refine wq_lmul (pc := 208) dX1_together_208 ?_
        refine wq_iload (pc := 209) dX1_together_209 rfl ?_
        refine clq1049 (pc := 211) (As := [.long y27, .long (y49.toInt64 * y51), .int x6]) (st := [.ref x0]) rfl dX1_together_211 rfl (Nat.le_of_ble_eq_true rfl) V (fun C53 S54 => wx_ki (fun y55 h52 V => ?_))
        obtain ⟨fs60, w61, V⟩ := V
        refine clq977 (pc := 214) (As := [.int y55]) (st := []) rfl dX1_together_214 rfl (Nat.le_of_ble_eq_true rfl) w61 V (fun C57 S58 => wx_ki (fun y59 h56 V => ?_))
        refine wq_iret (pc := 217) dX1_together_217 rfl ⟨_, rfl, V⟩
    · have V := V.2 c
      refine wq_aload_n (pc := 162) dX1_together_162 rfl rfl ?_
      refine wq_bipush (pc := 163) dX1_together_163 gstb6 ?_
      obtain ⟨fs66, w67, V⟩ := V
      refine clq259 (pc := 165) (As := [.int (6 : Int32)]) (st := []) rfl dX1_together_165 rfl (Nat.le_of_ble_eq_true rfl) w67 V (fun C63 S64 => wx_ki (fun y65 h62 V => ?_))
      refine wq_iret (pc := 168) dX1_together_168 rfl ⟨_, rfl, V⟩
  · have V := V.2 c
    refine wq_iload (pc := 86) dX1_together_86 rfl ?_
    refine wq_iload_n (pc := 88) dX1_together_88 rfl rfl ?_
    refine wq_ishr (pc := 89) dX1_together_89 ?_
    refine wq_iconst (pc := 90) dX1_together_90 gsti1 ?_
    refine wq_iand (pc := 91) dX1_together_91 ?_
    refine wq_iload_n (pc := 92) dX1_together_92 rfl rfl ?_
    refine wq_icmp_ne (pc := 93) (tgt := 128) dX1_together_93 rfl (fun c => ?_) (fun c => ?_)
    · have V := V.1 c
      refine wq_iinc (L' := [some (.ref x0), some (.int x1), some (.int x2), some (.int x3), some (.int x4), some (.int x5), some (.int x6), some (.int (x7 + (1 : Int32))), none]) (pc := 128) dX1_together_128 rfl (by rw [gsti1]) (Nat.le_of_ble_eq_true rfl) rfl ?_
      refine wq_goto (pc := 131) (tgt := 74) dX1_together_131 rfl ?_
      exact wq_T.less V ⟨rfl, ⟨rfl, ⟨rfl, ⟨rfl, ⟨rfl, ⟨rfl, ⟨rfl, ⟨rfl, trivial⟩⟩⟩⟩⟩⟩⟩⟩
    · have V := V.2 c
      refine wq_iload (pc := 96) dX1_together_96 rfl ?_
      refine wq_iload_n (pc := 98) dX1_together_98 rfl rfl ?_
      refine wq_ishr (pc := 99) dX1_together_99 ?_
      refine wq_iconst (pc := 100) dX1_together_100 gsti1 ?_
      refine wq_iand (pc := 101) dX1_together_101 ?_
      refine wq_iload (pc := 102) dX1_together_102 rfl ?_
      refine wq_icmp_ne (pc := 104) (tgt := 128) dX1_together_104 rfl (fun c => ?_) (fun c => ?_)
      · have V := V.1 c
        refine wq_iinc (L' := [some (.ref x0), some (.int x1), some (.int x2), some (.int x3), some (.int x4), some (.int x5), some (.int x6), some (.int (x7 + (1 : Int32))), none]) (pc := 128) dX1_together_128 rfl (by rw [gsti1]) (Nat.le_of_ble_eq_true rfl) rfl ?_
        refine wq_goto (pc := 131) (tgt := 74) dX1_together_131 rfl ?_
        exact wq_T.less V ⟨rfl, ⟨rfl, ⟨rfl, ⟨rfl, ⟨rfl, ⟨rfl, ⟨rfl, ⟨rfl, trivial⟩⟩⟩⟩⟩⟩⟩⟩
      · have V := V.2 c
        refine wq_aload_n (pc := 107) dX1_together_107 rfl rfl ?_
        refine gfq221 (pc := 108) rfl dX1_together_108 V (fun a68 V => ?_)
        refine wq_iload (pc := 111) dX1_together_111 rfl ?_
        refine wq_iload (pc := 113) dX1_together_113 rfl ?_
        refine wq_if_eq (pc := 115) (tgt := 122) dX1_together_115 rfl (fun c => ?_) (fun c => ?_)
        · have V := V.1 c
          refine wq_ldc2 (pc := 122) (v := (-1 : Int64)) q1063 dX1_together_122 ?_
          obtain ⟨fs72, w73, V⟩ := V
          refine clq1064 (pc := 125) (As := [.int x7, .long (-1 : Int64)]) (st := []) rfl dX1_together_125 rfl (Nat.le_of_ble_eq_true rfl) w73 V (fun C70 S71 => wx_kv (fun h69 V => ?_))
          refine wq_iinc (L' := [some (.ref x0), some (.int x1), some (.int x2), some (.int x3), some (.int x4), some (.int x5), some (.int x6), some (.int (x7 + (1 : Int32))), none]) (pc := 128) dX1_together_128 rfl (by rw [gsti1]) (Nat.le_of_ble_eq_true rfl) rfl ?_
          refine wq_goto (pc := 131) (tgt := 74) dX1_together_131 rfl ?_
          exact wq_T.less V ⟨rfl, ⟨rfl, ⟨rfl, ⟨rfl, ⟨rfl, ⟨rfl, ⟨rfl, ⟨rfl, trivial⟩⟩⟩⟩⟩⟩⟩⟩
        · have V := V.2 c
          refine wq_lconst (pc := 118) dX1_together_118 gstl1 ?_
          refine wq_goto (pc := 119) (tgt := 125) dX1_together_119 rfl ?_
          obtain ⟨fs77, w78, V⟩ := V
          refine clq1064 (pc := 125) (As := [.int x7, .long (1 : Int64)]) (st := []) rfl dX1_together_125 rfl (Nat.le_of_ble_eq_true rfl) w78 V (fun C75 S76 => wx_kv (fun h74 V => ?_))
          refine wq_iinc (L' := [some (.ref x0), some (.int x1), some (.int x2), some (.int x3), some (.int x4), some (.int x5), some (.int x6), some (.int (x7 + (1 : Int32))), none]) (pc := 128) dX1_together_128 rfl (by rw [gsti1]) (Nat.le_of_ble_eq_true rfl) rfl ?_
          refine wq_goto (pc := 131) (tgt := 74) dX1_together_131 rfl ?_
          exact wq_T.less V ⟨rfl, ⟨rfl, ⟨rfl, ⟨rfl, ⟨rfl, ⟨rfl, ⟨rfl, ⟨rfl, trivial⟩⟩⟩⟩⟩⟩⟩⟩
theorem vX1_isLook_0 {G : wq_G} {l : Launch} {d C S : Nat} {K : Int32 → wq_H → Prop} {x0 : Nat} {x1 : Int32} {h : wq_H} (V : wq_gQ h x0 [(0, 5)] (fun r1 => (r1 = none → K (0 : Int32) h) ∧ (∀ a2, r1 = some a2 → wq_gQ h x0 [(0, 5)] (fun r3 => ∃ a4, r3 = some a4 ∧ (wq_gI h a4 [(5, 1)] (fun y6 => wq_ci G l d C S mX1_in [.int x1, .int (0 : Int32), .int (y6 - (1 : Int32))] h (fun y10 h7 C8 S9 => (y10 = 0 → K (0 : Int32) h7) ∧ (¬ y10 = 0 → K (1 : Int32) h7)))))))) : wq_T G l d mX1_isLook (wq_qi K) 0 [some (.ref x0), some (.int x1)] [] h C S := by
  refine wq_aload_n (pc := 0) dX1_isLook_0 rfl rfl ?_
  refine gfq219 (pc := 1) rfl dX1_isLook_1 V (fun r1 V => ?_)
  refine wq_ifnull (pc := 4) (tgt := 28) dX1_isLook_4 rfl (fun c => ?_) (fun a2 c => ?_)
  · subst c
    have V := V.1 rfl
    refine wq_iconst (pc := 28) dX1_isLook_28 gsti0 ?_
    refine wq_zret (pc := 29) dX1_isLook_29 rfl gn_b0 ⟨_, rfl, V⟩
  · subst c
    have V := V.2 a2 rfl
    refine wq_iload_n (pc := 7) dX1_isLook_7 rfl rfl ?_
    refine wq_iconst (pc := 8) dX1_isLook_8 gsti0 ?_
    refine wq_aload_n (pc := 9) dX1_isLook_9 rfl rfl ?_
    refine gfq219 (pc := 10) rfl dX1_isLook_10 V (fun r3 V => ?_)
    obtain ⟨a4, w5, V⟩ := V
    rw [w5]
    refine gfq310 (pc := 13) rfl dX1_isLook_13 V (fun y6 V => ?_)
    refine wq_iconst (pc := 16) dX1_isLook_16 gsti1 ?_
    refine wq_isub (pc := 17) dX1_isLook_17 ?_
    refine clq256 (pc := 18) (As := [.int x1, .int (0 : Int32), .int (y6 - (1 : Int32))]) (st := []) rfl dX1_isLook_18 rfl (Nat.le_of_ble_eq_true rfl) V (fun C8 S9 => wx_ki (fun y10 h7 V => ?_))
    refine wq_if_eq (pc := 21) (tgt := 28) dX1_isLook_21 rfl (fun c => ?_) (fun c => ?_)
    · have V := V.1 c
      refine wq_iconst (pc := 28) dX1_isLook_28 gsti0 ?_
      refine wq_zret (pc := 29) dX1_isLook_29 rfl gn_b0 ⟨_, rfl, V⟩
    · have V := V.2 c
      refine wq_iconst (pc := 24) dX1_isLook_24 gsti1 ?_
      refine wq_goto (pc := 25) (tgt := 29) dX1_isLook_25 rfl ?_
      refine wq_zret (pc := 29) dX1_isLook_29 rfl gn_b1 ⟨_, rfl, V⟩
theorem vX1_extend_0 {G : wq_G} {l : Launch} {d C S : Nat} {K : Int32 → wq_H → Prop} {x0 : Nat} {x1 : Int32} {x2 : Int32} {h : wq_H} (V : ∃ fs5 : List Value, h x0 = some (.inr (0, fs5)) ∧ (wq_ci G l d C S mX1_isOutcome [.ref x0, .int x1, .int x2] h (fun y4 h1 C2 S3 => (y4 = 0 → ∃ fs11 : List Value, h1 x0 = some (.inr (0, fs11)) ∧ (wq_ci G l d C2 S3 mX1_refused [.ref x0, .int (1 : Int32)] h1 (fun y10 h7 C8 S9 => K y10 h7))) ∧ (¬ y4 = 0 → ∃ fs17 : List Value, h1 x0 = some (.inr (0, fs17)) ∧ (wq_ci G l d C2 S3 mX1_extended [.ref x0, .int x1, .int x2] h1 (fun y16 h13 C14 S15 => (y16 = 0 → ∃ fs23 : List Value, h13 x0 = some (.inr (0, fs23)) ∧ (wq_ci G l d C14 S15 mX1_well [.ref x0, .int (0 : Int32)] h13 (fun y22 h19 C20 S21 => K y22 h19))) ∧ (¬ y16 = 0 → ∃ fs29 : List Value, h13 x0 = some (.inr (0, fs29)) ∧ (wq_ci G l d C14 S15 mX1_well [.ref x0, .int (1 : Int32)] h13 (fun y28 h25 C26 S27 => K y28 h25))))))))) : wq_T G l d mX1_extend (wq_qi K) 0 [some (.ref x0), some (.int x1), some (.int x2)] [] h C S := by
  refine wq_aload_n (pc := 0) dX1_extend_0 rfl rfl ?_
  refine wq_iload_n (pc := 1) dX1_extend_1 rfl rfl ?_
  refine wq_iload_n (pc := 2) dX1_extend_2 rfl rfl ?_
  obtain ⟨fs5, w6, V⟩ := V
  refine clq1072 (pc := 3) (As := [.int x1, .int x2]) (st := []) rfl dX1_extend_3 rfl (Nat.le_of_ble_eq_true rfl) w6 V (fun C2 S3 => wx_ki (fun y4 h1 V => ?_))
  refine wq_if_eq (pc := 6) (tgt := 30) dX1_extend_6 rfl (fun c => ?_) (fun c => ?_)
  · have V := V.1 c
    refine wq_aload_n (pc := 30) dX1_extend_30 rfl rfl ?_
    refine wq_iconst (pc := 31) dX1_extend_31 gsti1 ?_
    obtain ⟨fs11, w12, V⟩ := V
    refine clq259 (pc := 32) (As := [.int (1 : Int32)]) (st := []) rfl dX1_extend_32 rfl (Nat.le_of_ble_eq_true rfl) w12 V (fun C8 S9 => wx_ki (fun y10 h7 V => ?_))
    refine wq_iret (pc := 35) dX1_extend_35 rfl ⟨_, rfl, V⟩
  · have V := V.2 c
    refine wq_aload_n (pc := 9) dX1_extend_9 rfl rfl ?_
    refine wq_aload_n (pc := 10) dX1_extend_10 rfl rfl ?_
    refine wq_iload_n (pc := 11) dX1_extend_11 rfl rfl ?_
    refine wq_iload_n (pc := 12) dX1_extend_12 rfl rfl ?_
    obtain ⟨fs17, w18, V⟩ := V
    refine clq1084 (pc := 13) (As := [.int x1, .int x2]) (st := [.ref x0]) rfl dX1_extend_13 rfl (Nat.le_of_ble_eq_true rfl) w18 V (fun C14 S15 => wx_ki (fun y16 h13 V => ?_))
    refine wq_if_eq (pc := 16) (tgt := 23) dX1_extend_16 rfl (fun c => ?_) (fun c => ?_)
    · have V := V.1 c
      refine wq_iconst (pc := 23) dX1_extend_23 gsti0 ?_
      obtain ⟨fs23, w24, V⟩ := V
      refine clq977 (pc := 24) (As := [.int (0 : Int32)]) (st := []) rfl dX1_extend_24 rfl (Nat.le_of_ble_eq_true rfl) w24 V (fun C20 S21 => wx_ki (fun y22 h19 V => ?_))
      refine wq_goto (pc := 27) (tgt := 35) dX1_extend_27 rfl ?_
      refine wq_iret (pc := 35) dX1_extend_35 rfl ⟨_, rfl, V⟩
    · have V := V.2 c
      refine wq_iconst (pc := 19) dX1_extend_19 gsti1 ?_
      refine wq_goto (pc := 20) (tgt := 24) dX1_extend_20 rfl ?_
      obtain ⟨fs29, w30, V⟩ := V
      refine clq977 (pc := 24) (As := [.int (1 : Int32)]) (st := []) rfl dX1_extend_24 rfl (Nat.le_of_ble_eq_true rfl) w30 V (fun C26 S27 => wx_ki (fun y28 h25 V => ?_))
      refine wq_goto (pc := 27) (tgt := 35) dX1_extend_27 rfl ?_
      refine wq_iret (pc := 35) dX1_extend_35 rfl ⟨_, rfl, V⟩
theorem vX1_isOutcome_0 {G : wq_G} {l : Launch} {d C S : Nat} {K : Int32 → wq_H → Prop} {x0 : Nat} {x1 : Int32} {x2 : Int32} {h : wq_H} (V : wq_gQ h x0 [(0, 5)] (fun r1 => (r1 = none → K (0 : Int32) h) ∧ (∀ a2, r1 = some a2 → wq_gR h x0 [(0, 6)] (fun a3 => ∃ fs8 : List Value, h a3 = some (.inr (6, fs8)) ∧ (wq_ci G l d C S mX7_isOutcome [.ref a3, .int x1, .int x2] h (fun y7 h4 C5 S6 => (y7 = 0 → K (0 : Int32) h4) ∧ (¬ y7 = 0 → K (1 : Int32) h4))))))) : wq_T G l d mX1_isOutcome (wq_qi K) 0 [some (.ref x0), some (.int x1), some (.int x2)] [] h C S := by
  refine wq_aload_n (pc := 0) dX1_isOutcome_0 rfl rfl ?_
  refine gfq219 (pc := 1) rfl dX1_isOutcome_1 V (fun r1 V => ?_)
  refine wq_ifnull (pc := 4) (tgt := 23) dX1_isOutcome_4 rfl (fun c => ?_) (fun a2 c => ?_)
  · subst c
    have V := V.1 rfl
    refine wq_iconst (pc := 23) dX1_isOutcome_23 gsti0 ?_
    refine wq_zret (pc := 24) dX1_isOutcome_24 rfl gn_b0 ⟨_, rfl, V⟩
  · subst c
    have V := V.2 a2 rfl
    refine wq_aload_n (pc := 7) dX1_isOutcome_7 rfl rfl ?_
    refine gfq220 (pc := 8) rfl dX1_isOutcome_8 V (fun a3 V => ?_)
    refine wq_iload_n (pc := 11) dX1_isOutcome_11 rfl rfl ?_
    refine wq_iload_n (pc := 12) dX1_isOutcome_12 rfl rfl ?_
    obtain ⟨fs8, w9, V⟩ := V
    refine clq1076 (pc := 13) (As := [.int x1, .int x2]) (st := []) rfl dX1_isOutcome_13 rfl (Nat.le_of_ble_eq_true rfl) w9 V (fun C5 S6 => wx_ki (fun y7 h4 V => ?_))
    refine wq_if_eq (pc := 16) (tgt := 23) dX1_isOutcome_16 rfl (fun c => ?_) (fun c => ?_)
    · have V := V.1 c
      refine wq_iconst (pc := 23) dX1_isOutcome_23 gsti0 ?_
      refine wq_zret (pc := 24) dX1_isOutcome_24 rfl gn_b0 ⟨_, rfl, V⟩
    · have V := V.2 c
      refine wq_iconst (pc := 19) dX1_isOutcome_19 gsti1 ?_
      refine wq_goto (pc := 20) (tgt := 24) dX1_isOutcome_20 rfl ?_
      refine wq_zret (pc := 24) dX1_isOutcome_24 rfl gn_b1 ⟨_, rfl, V⟩
theorem vX1_extended_0 {G : wq_G} {l : Launch} {d C S : Nat} {K : Int32 → wq_H → Prop} {x0 : Nat} {x1 : Int32} {x2 : Int32} {h : wq_H} (V : wq_gR h x0 [(0, 6)] (fun a1 => wq_gQ h x0 [(0, 5)] (fun r2 => ∃ a3, r2 = some a3 ∧ (∃ fs9 : List Value, h a3 = some (.inr (5, fs9)) ∧ (wq_ci G l d C S mX6_hiddens [.ref a3] h (fun y8 h5 C6 S7 => ∃ fs15 : List Value, h5 a1 = some (.inr (6, fs15)) ∧ (wq_ci G l d C6 S7 mX7_extend [.ref a1, .int x1, .int x2, .int y8] h5 (fun y14 h11 C12 S13 => narrow .boolean (.int y14) = .int y14 ∧ K y14 h11)))))))) : wq_T G l d mX1_extended (wq_qi K) 0 [some (.ref x0), some (.int x1), some (.int x2)] [] h C S := by
  refine wq_aload_n (pc := 0) dX1_extended_0 rfl rfl ?_
  refine gfq220 (pc := 1) rfl dX1_extended_1 V (fun a1 V => ?_)
  refine wq_iload_n (pc := 4) dX1_extended_4 rfl rfl ?_
  refine wq_iload_n (pc := 5) dX1_extended_5 rfl rfl ?_
  refine wq_aload_n (pc := 6) dX1_extended_6 rfl rfl ?_
  refine gfq219 (pc := 7) rfl dX1_extended_7 V (fun r2 V => ?_)
  obtain ⟨a3, w4, V⟩ := V
  rw [w4]
  obtain ⟨fs9, w10, V⟩ := V
  refine clq997 (pc := 10) (As := []) (st := [.int x2, .int x1, .ref a1]) rfl dX1_extended_10 rfl (Nat.le_of_ble_eq_true rfl) w10 V (fun C6 S7 => wx_ki (fun y8 h5 V => ?_))
  obtain ⟨fs15, w16, V⟩ := V
  refine clq1088 (pc := 13) (As := [.int x1, .int x2, .int y8]) (st := []) rfl dX1_extended_13 rfl (Nat.le_of_ble_eq_true rfl) w16 V (fun C12 S13 => wx_ki (fun y14 h11 V => ?_))
  refine wq_zret (pc := 16) dX1_extended_16 rfl V.1 ⟨_, rfl, V.2⟩
theorem vX1_level_0 {G : wq_G} {l : Launch} {d C S : Nat} {K : Int32 → wq_H → Prop} {x0 : Nat} {h : wq_H} (V : wq_gQ h x0 [(0, 5)] (fun r1 => (r1 = none → ∃ fs7 : List Value, h x0 = some (.inr (0, fs7)) ∧ (wq_ci G l d C S mX1_refused [.ref x0, .int (1 : Int32)] h (fun y6 h3 C4 S5 => K y6 h3))) ∧ (∀ a2, r1 = some a2 → ∃ fs13 : List Value, h x0 = some (.inr (0, fs13)) ∧ (wq_ci G l d C S mX1_isMixed [.ref x0] h (fun y12 h9 C10 S11 => (y12 = 0 → ∃ fs19 : List Value, h9 x0 = some (.inr (0, fs19)) ∧ (wq_ci G l d C10 S11 mX1_possible [.ref x0, .int (0 : Int32)] h9 (fun y18 h15 C16 S17 => (¬ y18 = 0 → ∃ fs25 : List Value, h15 x0 = some (.inr (0, fs25)) ∧ (wq_ci G l d C16 S17 mX1_possible [.ref x0, .int (1 : Int32)] h15 (fun y24 h21 C22 S23 => (y24 ≤ 0 → ∃ fs31 : List Value, h21 x0 = some (.inr (0, fs31)) ∧ (wq_ci G l d C22 S23 mX1_well [.ref x0, .int (3 : Int32)] h21 (fun y30 h27 C28 S29 => K y30 h27))) ∧ (¬ y24 ≤ 0 → ∃ fs37 : List Value, h21 x0 = some (.inr (0, fs37)) ∧ (wq_ci G l d C22 S23 mX1_well [.ref x0, .int (2 : Int32)] h21 (fun y36 h33 C34 S35 => K y36 h33)))))) ∧ (y18 = 0 → ∃ fs43 : List Value, h15 x0 = some (.inr (0, fs43)) ∧ (wq_ci G l d C16 S17 mX1_well [.ref x0, .int (1 : Int32)] h15 (fun y42 h39 C40 S41 => K y42 h39)))))) ∧ (¬ y12 = 0 → ∃ fs49 : List Value, h9 x0 = some (.inr (0, fs49)) ∧ (wq_ci G l d C10 S11 mX1_well [.ref x0, .int (0 : Int32)] h9 (fun y48 h45 C46 S47 => K y48 h45)))))))) : wq_T G l d mX1_level (wq_qi K) 0 [some (.ref x0)] [] h C S := by
  refine wq_aload_n (pc := 0) dX1_level_0 rfl rfl ?_
  refine gfq219 (pc := 1) rfl dX1_level_1 V (fun r1 V => ?_)
  refine wq_ifnonnull (pc := 4) (tgt := 13) dX1_level_4 rfl (fun a2 c => ?_) (fun c => ?_)
  · subst c
    have V := V.2 a2 rfl
    refine wq_aload_n (pc := 13) dX1_level_13 rfl rfl ?_
    obtain ⟨fs13, w14, V⟩ := V
    refine clq1107 (pc := 14) (As := []) (st := []) rfl dX1_level_14 rfl (Nat.le_of_ble_eq_true rfl) w14 V (fun C10 S11 => wx_ki (fun y12 h9 V => ?_))
    refine wq_if_eq (pc := 17) (tgt := 26) dX1_level_17 rfl (fun c => ?_) (fun c => ?_)
    · have V := V.1 c
      refine wq_aload_n (pc := 26) dX1_level_26 rfl rfl ?_
      refine wq_aload_n (pc := 27) dX1_level_27 rfl rfl ?_
      refine wq_iconst (pc := 28) dX1_level_28 gsti0 ?_
      obtain ⟨fs19, w20, V⟩ := V
      refine clq1111 (pc := 29) (As := [.int (0 : Int32)]) (st := [.ref x0]) rfl dX1_level_29 rfl (Nat.le_of_ble_eq_true rfl) w20 V (fun C16 S17 => wx_ki (fun y18 h15 V => ?_))
      refine wq_if_ne (pc := 32) (tgt := 39) dX1_level_32 rfl (fun c => ?_) (fun c => ?_)
      · have V := V.1 c
        refine wq_aload_n (pc := 39) dX1_level_39 rfl rfl ?_
        refine wq_iconst (pc := 40) dX1_level_40 gsti1 ?_
        obtain ⟨fs25, w26, V⟩ := V
        refine clq1111 (pc := 41) (As := [.int (1 : Int32)]) (st := [.ref x0]) rfl dX1_level_41 rfl (Nat.le_of_ble_eq_true rfl) w26 V (fun C22 S23 => wx_ki (fun y24 h21 V => ?_))
        refine wq_if_le (pc := 44) (tgt := 51) dX1_level_44 rfl (fun c => ?_) (fun c => ?_)
        · have V := V.1 c
          refine wq_iconst (pc := 51) dX1_level_51 gsti3 ?_
          obtain ⟨fs31, w32, V⟩ := V
          refine clq977 (pc := 52) (As := [.int (3 : Int32)]) (st := []) rfl dX1_level_52 rfl (Nat.le_of_ble_eq_true rfl) w32 V (fun C28 S29 => wx_ki (fun y30 h27 V => ?_))
          refine wq_iret (pc := 55) dX1_level_55 rfl ⟨_, rfl, V⟩
        · have V := V.2 c
          refine wq_iconst (pc := 47) dX1_level_47 gsti2 ?_
          refine wq_goto (pc := 48) (tgt := 52) dX1_level_48 rfl ?_
          obtain ⟨fs37, w38, V⟩ := V
          refine clq977 (pc := 52) (As := [.int (2 : Int32)]) (st := []) rfl dX1_level_52 rfl (Nat.le_of_ble_eq_true rfl) w38 V (fun C34 S35 => wx_ki (fun y36 h33 V => ?_))
          refine wq_iret (pc := 55) dX1_level_55 rfl ⟨_, rfl, V⟩
      · have V := V.2 c
        refine wq_iconst (pc := 35) dX1_level_35 gsti1 ?_
        refine wq_goto (pc := 36) (tgt := 52) dX1_level_36 rfl ?_
        obtain ⟨fs43, w44, V⟩ := V
        refine clq977 (pc := 52) (As := [.int (1 : Int32)]) (st := []) rfl dX1_level_52 rfl (Nat.le_of_ble_eq_true rfl) w44 V (fun C40 S41 => wx_ki (fun y42 h39 V => ?_))
        refine wq_iret (pc := 55) dX1_level_55 rfl ⟨_, rfl, V⟩
    · have V := V.2 c
      refine wq_aload_n (pc := 20) dX1_level_20 rfl rfl ?_
      refine wq_iconst (pc := 21) dX1_level_21 gsti0 ?_
      obtain ⟨fs49, w50, V⟩ := V
      refine clq977 (pc := 22) (As := [.int (0 : Int32)]) (st := []) rfl dX1_level_22 rfl (Nat.le_of_ble_eq_true rfl) w50 V (fun C46 S47 => wx_ki (fun y48 h45 V => ?_))
      refine wq_iret (pc := 25) dX1_level_25 rfl ⟨_, rfl, V⟩
  · subst c
    have V := V.1 rfl
    refine wq_aload_n (pc := 7) dX1_level_7 rfl rfl ?_
    refine wq_iconst (pc := 8) dX1_level_8 gsti1 ?_
    obtain ⟨fs7, w8, V⟩ := V
    refine clq259 (pc := 9) (As := [.int (1 : Int32)]) (st := []) rfl dX1_level_9 rfl (Nat.le_of_ble_eq_true rfl) w8 V (fun C4 S5 => wx_ki (fun y6 h3 V => ?_))
    refine wq_iret (pc := 12) dX1_level_12 rfl ⟨_, rfl, V⟩
theorem vX1_isMixed_0 {G : wq_G} {l : Launch} {d C S : Nat} {K : Int32 → wq_H → Prop} {x0 : Nat} {h : wq_H} (V : ∃ fs5 : List Value, h x0 = some (.inr (0, fs5)) ∧ (wq_cj G l d C S mX1_measures [.ref x0] h (fun y4 h1 C2 S3 => wq_gQ h1 x0 [(0, 5)] (fun r7 => ∃ a8, r7 = some a8 ∧ (wq_gI h1 a8 [(5, 0)] (fun y10 => wq_gR h1 x0 [(0, 7)] (fun a11 => wq_gJ h1 a11 [(1, 5)] (fun y12 => (¬ (lg_cmp y4 (y10.toInt64 * y12)) = 0 → K (0 : Int32) h1) ∧ ((lg_cmp y4 (y10.toInt64 * y12)) = 0 → K (1 : Int32) h1))))))))) : wq_T G l d mX1_isMixed (wq_qi K) 0 [some (.ref x0)] [] h C S := by
  refine wq_aload_n (pc := 0) dX1_isMixed_0 rfl rfl ?_
  obtain ⟨fs5, w6, V⟩ := V
  refine clq993 (pc := 1) (As := []) (st := []) rfl dX1_isMixed_1 rfl (Nat.le_of_ble_eq_true rfl) w6 V (fun C2 S3 => wx_kj (fun y4 h1 V => ?_))
  refine wq_aload_n (pc := 4) dX1_isMixed_4 rfl rfl ?_
  refine gfq219 (pc := 5) rfl dX1_isMixed_5 V (fun r7 V => ?_)
  obtain ⟨a8, w9, V⟩ := V
  rw [w9]
  refine gfq308 (pc := 8) rfl dX1_isMixed_8 V (fun y10 V => ?_)
  refine wq_i2l (pc := 11) dX1_isMixed_11 ?_
  refine wq_aload_n (pc := 12) dX1_isMixed_12 rfl rfl ?_
  refine gfq221 (pc := 13) rfl dX1_isMixed_13 V (fun a11 V => ?_)
  refine gfq171 (pc := 16) rfl dX1_isMixed_16 V (fun y12 V => ?_)
  refine wq_lmul (pc := 19) dX1_isMixed_19 ?_
  refine wq_lcmp (pc := 20) dX1_isMixed_20 ?_
  refine wq_if_ne (pc := 21) (tgt := 28) dX1_isMixed_21 rfl (fun c => ?_) (fun c => ?_)
  · have V := V.1 c
    refine wq_iconst (pc := 28) dX1_isMixed_28 gsti0 ?_
    refine wq_zret (pc := 29) dX1_isMixed_29 rfl gn_b0 ⟨_, rfl, V⟩
  · have V := V.2 c
    refine wq_iconst (pc := 24) dX1_isMixed_24 gsti1 ?_
    refine wq_goto (pc := 25) (tgt := 29) dX1_isMixed_25 rfl ?_
    refine wq_zret (pc := 29) dX1_isMixed_29 rfl gn_b1 ⟨_, rfl, V⟩
theorem vX1_possible_0 {G : wq_G} {l : Launch} {d C S : Nat} {K : Int32 → wq_H → Prop} {x0 : Nat} {x1 : Int32} {h : wq_H} (V : wq_T G l d mX1_possible (wq_qi K) 4 [some (.ref x0), some (.int x1), some (.int (0 : Int32)), some (.int (0 : Int32)), none] [] h C S) : wq_T G l d mX1_possible (wq_qi K) 0 [some (.ref x0), some (.int x1), none, none, none] [] h C S := by
  refine wq_iconst (pc := 0) dX1_possible_0 gsti0 ?_
  refine wq_istore_n (L' := [some (.ref x0), some (.int x1), some (.int (0 : Int32)), none, none]) (pc := 1) dX1_possible_1 rfl (Nat.le_of_ble_eq_true rfl) rfl ?_
  refine wq_iconst (pc := 2) dX1_possible_2 gsti0 ?_
  refine wq_istore_n (L' := [some (.ref x0), some (.int x1), some (.int (0 : Int32)), some (.int (0 : Int32)), none]) (pc := 3) dX1_possible_3 rfl (Nat.le_of_ble_eq_true rfl) rfl ?_
  exact wq_T.less V ⟨rfl, ⟨rfl, ⟨rfl, ⟨rfl, trivial⟩⟩⟩⟩
theorem vX1_possible_4 {G : wq_G} {l : Launch} {d C S : Nat} {K : Int32 → wq_H → Prop} {x0 : Nat} {x1 : Int32} {x2 : Int32} {x3 : Int32} {h : wq_H} (V : wq_gR h x0 [(0, 6)] (fun a1 => ∃ fs6 : List Value, h a1 = some (.inr (6, fs6)) ∧ (wq_ci G l d C S mX7_size [.ref a1] h (fun y5 h2 C3 S4 => (y5 ≤ x3 → K x2 h2) ∧ (¬ y5 ≤ x3 → wq_T G l d mX1_possible (wq_qi K) 18 [some (.ref x0), some (.int x1), some (.int x2), some (.int x3), some (.int (0 : Int32))] [] h2 C3 S4))))) : wq_T G l d mX1_possible (wq_qi K) 4 [some (.ref x0), some (.int x1), some (.int x2), some (.int x3), none] [] h C S := by
  refine wq_iload_n (pc := 4) dX1_possible_4 rfl rfl ?_
  refine wq_aload_n (pc := 5) dX1_possible_5 rfl rfl ?_
  refine gfq220 (pc := 6) rfl dX1_possible_6 V (fun a1 V => ?_)
  obtain ⟨fs6, w7, V⟩ := V
  refine clq1115 (pc := 9) (As := []) (st := [.int x3]) rfl dX1_possible_9 rfl (Nat.le_of_ble_eq_true rfl) w7 V (fun C3 S4 => wx_ki (fun y5 h2 V => ?_))
  refine wq_icmp_ge (pc := 12) (tgt := 81) dX1_possible_12 rfl (fun c => ?_) (fun c => ?_)
  · have V := V.1 c
    refine wq_iload_n (pc := 81) dX1_possible_81 rfl rfl ?_
    refine wq_iret (pc := 82) dX1_possible_82 rfl ⟨_, rfl, V⟩
  · have V := V.2 c
    refine wq_iconst (pc := 15) dX1_possible_15 gsti0 ?_
    refine wq_istore (L' := [some (.ref x0), some (.int x1), some (.int x2), some (.int x3), some (.int (0 : Int32))]) (pc := 16) dX1_possible_16 (Nat.le_of_ble_eq_true rfl) rfl ?_
    exact wq_T.less V ⟨rfl, ⟨rfl, ⟨rfl, ⟨rfl, ⟨rfl, trivial⟩⟩⟩⟩⟩
theorem vX1_possible_18 {G : wq_G} {l : Launch} {d C S : Nat} {K : Int32 → wq_H → Prop} {x0 : Nat} {x1 : Int32} {x2 : Int32} {x3 : Int32} {x4 : Int32} {h : wq_H} (V : wq_gR h x0 [(0, 6)] (fun a1 => ∃ fs6 : List Value, h a1 = some (.inr (6, fs6)) ∧ (wq_cq G l d C S mX7_set [.ref a1, .int x3] h (fun r5 h2 C3 S4 => ∃ a8, r5 = some a8 ∧ ((∃ fs14 : List Value, h2 a8 = some (.inr (8, fs14)) ∧ wq_ci G l d C3 S4 mX10_outcomes [.ref a8] h2 (fun y13 h10 C11 S12 => (y13 ≤ x4 → wq_T G l d mX1_possible (wq_qi K) 4 [some (.ref x0), some (.int x1), some (.int x2), some (.int (x3 + (1 : Int32))), none] [] h10 C11 S12) ∧ (¬ y13 ≤ x4 → wq_gR h10 x0 [(0, 6)] (fun a16 => ∃ fs21 : List Value, h10 a16 = some (.inr (6, fs21)) ∧ (wq_cq G l d C11 S12 mX7_set [.ref a16, .int x3] h10 (fun r20 h17 C18 S19 => ∃ a23, r20 = some a23 ∧ ((∃ fs29 : List Value, h17 a23 = some (.inr (8, fs29)) ∧ wq_ci G l d C18 S19 mX9_isPossible [.ref a23, .int x4] h17 (fun y28 h25 C26 S27 => (y28 = 0 → wq_T G l d mX1_possible (wq_qi K) 18 [some (.ref x0), some (.int x1), some (.int (x2 + (0 : Int32))), some (.int x3), some (.int (x4 + (1 : Int32)))] [] h25 C26 S27) ∧ (¬ y28 = 0 → ∃ fs35 : List Value, h25 x0 = some (.inr (0, fs35)) ∧ (wq_ci G l d C26 S27 mX1_extended [.ref x0, .int x3, .int x4] h25 (fun y34 h31 C32 S33 => (¬ y34 = x1 → wq_T G l d mX1_possible (wq_qi K) 18 [some (.ref x0), some (.int x1), some (.int (x2 + (0 : Int32))), some (.int x3), some (.int (x4 + (1 : Int32)))] [] h31 C32 S33) ∧ (y34 = x1 → wq_T G l d mX1_possible (wq_qi K) 18 [some (.ref x0), some (.int x1), some (.int (x2 + (1 : Int32))), some (.int x3), some (.int (x4 + (1 : Int32)))] [] h31 C32 S33)))))) ∨ (∃ fs29 : List Value, h17 a23 = some (.inr (9, fs29)) ∧ wq_ci G l d C18 S19 mX9_isPossible [.ref a23, .int x4] h17 (fun y28 h25 C26 S27 => (y28 = 0 → wq_T G l d mX1_possible (wq_qi K) 18 [some (.ref x0), some (.int x1), some (.int (x2 + (0 : Int32))), some (.int x3), some (.int (x4 + (1 : Int32)))] [] h25 C26 S27) ∧ (¬ y28 = 0 → ∃ fs35 : List Value, h25 x0 = some (.inr (0, fs35)) ∧ (wq_ci G l d C26 S27 mX1_extended [.ref x0, .int x3, .int x4] h25 (fun y34 h31 C32 S33 => (¬ y34 = x1 → wq_T G l d mX1_possible (wq_qi K) 18 [some (.ref x0), some (.int x1), some (.int (x2 + (0 : Int32))), some (.int x3), some (.int (x4 + (1 : Int32)))] [] h31 C32 S33) ∧ (y34 = x1 → wq_T G l d mX1_possible (wq_qi K) 18 [some (.ref x0), some (.int x1), some (.int (x2 + (1 : Int32))), some (.int x3), some (.int (x4 + (1 : Int32)))] [] h31 C32 S33))))))))))))) ∨ (∃ fs14 : List Value, h2 a8 = some (.inr (9, fs14)) ∧ wq_ci G l d C3 S4 mX11_outcomes [.ref a8] h2 (fun y13 h10 C11 S12 => (y13 ≤ x4 → wq_T G l d mX1_possible (wq_qi K) 4 [some (.ref x0), some (.int x1), some (.int x2), some (.int (x3 + (1 : Int32))), none] [] h10 C11 S12) ∧ (¬ y13 ≤ x4 → wq_gR h10 x0 [(0, 6)] (fun a16 => ∃ fs21 : List Value, h10 a16 = some (.inr (6, fs21)) ∧ (wq_cq G l d C11 S12 mX7_set [.ref a16, .int x3] h10 (fun r20 h17 C18 S19 => ∃ a23, r20 = some a23 ∧ ((∃ fs29 : List Value, h17 a23 = some (.inr (8, fs29)) ∧ wq_ci G l d C18 S19 mX9_isPossible [.ref a23, .int x4] h17 (fun y28 h25 C26 S27 => (y28 = 0 → wq_T G l d mX1_possible (wq_qi K) 18 [some (.ref x0), some (.int x1), some (.int (x2 + (0 : Int32))), some (.int x3), some (.int (x4 + (1 : Int32)))] [] h25 C26 S27) ∧ (¬ y28 = 0 → ∃ fs35 : List Value, h25 x0 = some (.inr (0, fs35)) ∧ (wq_ci G l d C26 S27 mX1_extended [.ref x0, .int x3, .int x4] h25 (fun y34 h31 C32 S33 => (¬ y34 = x1 → wq_T G l d mX1_possible (wq_qi K) 18 [some (.ref x0), some (.int x1), some (.int (x2 + (0 : Int32))), some (.int x3), some (.int (x4 + (1 : Int32)))] [] h31 C32 S33) ∧ (y34 = x1 → wq_T G l d mX1_possible (wq_qi K) 18 [some (.ref x0), some (.int x1), some (.int (x2 + (1 : Int32))), some (.int x3), some (.int (x4 + (1 : Int32)))] [] h31 C32 S33)))))) ∨ (∃ fs29 : List Value, h17 a23 = some (.inr (9, fs29)) ∧ wq_ci G l d C18 S19 mX9_isPossible [.ref a23, .int x4] h17 (fun y28 h25 C26 S27 => (y28 = 0 → wq_T G l d mX1_possible (wq_qi K) 18 [some (.ref x0), some (.int x1), some (.int (x2 + (0 : Int32))), some (.int x3), some (.int (x4 + (1 : Int32)))] [] h25 C26 S27) ∧ (¬ y28 = 0 → ∃ fs35 : List Value, h25 x0 = some (.inr (0, fs35)) ∧ (wq_ci G l d C26 S27 mX1_extended [.ref x0, .int x3, .int x4] h25 (fun y34 h31 C32 S33 => (¬ y34 = x1 → wq_T G l d mX1_possible (wq_qi K) 18 [some (.ref x0), some (.int x1), some (.int (x2 + (0 : Int32))), some (.int x3), some (.int (x4 + (1 : Int32)))] [] h31 C32 S33) ∧ (y34 = x1 → wq_T G l d mX1_possible (wq_qi K) 18 [some (.ref x0), some (.int x1), some (.int (x2 + (1 : Int32))), some (.int x3), some (.int (x4 + (1 : Int32)))] [] h31 C32 S33)))))))))))))))))) : wq_T G l d mX1_possible (wq_qi K) 18 [some (.ref x0), some (.int x1), some (.int x2), some (.int x3), some (.int x4)] [] h C S := by
  refine wq_iload (pc := 18) dX1_possible_18 rfl ?_
  refine wq_aload_n (pc := 20) dX1_possible_20 rfl rfl ?_
  refine gfq220 (pc := 21) rfl dX1_possible_21 V (fun a1 V => ?_)
  refine wq_iload_n (pc := 24) dX1_possible_24 rfl rfl ?_
  obtain ⟨fs6, w7, V⟩ := V
  refine clq1116 (pc := 25) (As := [.int x3]) (st := [.int x4]) rfl dX1_possible_25 rfl (Nat.le_of_ble_eq_true rfl) w7 V (fun C3 S4 => wx_kq (fun r5 h2 V => ?_))
  obtain ⟨a8, w9, V⟩ := V
  rw [w9]
  have T : ∀ C11 S12 y13 h10, ((y13 ≤ x4 → wq_T G l d mX1_possible (wq_qi K) 4 [some (.ref x0), some (.int x1), some (.int x2), some (.int (x3 + (1 : Int32))), none] [] h10 C11 S12) ∧ (¬ y13 ≤ x4 → wq_gR h10 x0 [(0, 6)] (fun a16 => ∃ fs21 : List Value, h10 a16 = some (.inr (6, fs21)) ∧ (wq_cq G l d C11 S12 mX7_set [.ref a16, .int x3] h10 (fun r20 h17 C18 S19 => ∃ a23, r20 = some a23 ∧ ((∃ fs29 : List Value, h17 a23 = some (.inr (8, fs29)) ∧ wq_ci G l d C18 S19 mX9_isPossible [.ref a23, .int x4] h17 (fun y28 h25 C26 S27 => (y28 = 0 → wq_T G l d mX1_possible (wq_qi K) 18 [some (.ref x0), some (.int x1), some (.int (x2 + (0 : Int32))), some (.int x3), some (.int (x4 + (1 : Int32)))] [] h25 C26 S27) ∧ (¬ y28 = 0 → ∃ fs35 : List Value, h25 x0 = some (.inr (0, fs35)) ∧ (wq_ci G l d C26 S27 mX1_extended [.ref x0, .int x3, .int x4] h25 (fun y34 h31 C32 S33 => (¬ y34 = x1 → wq_T G l d mX1_possible (wq_qi K) 18 [some (.ref x0), some (.int x1), some (.int (x2 + (0 : Int32))), some (.int x3), some (.int (x4 + (1 : Int32)))] [] h31 C32 S33) ∧ (y34 = x1 → wq_T G l d mX1_possible (wq_qi K) 18 [some (.ref x0), some (.int x1), some (.int (x2 + (1 : Int32))), some (.int x3), some (.int (x4 + (1 : Int32)))] [] h31 C32 S33)))))) ∨ (∃ fs29 : List Value, h17 a23 = some (.inr (9, fs29)) ∧ wq_ci G l d C18 S19 mX9_isPossible [.ref a23, .int x4] h17 (fun y28 h25 C26 S27 => (y28 = 0 → wq_T G l d mX1_possible (wq_qi K) 18 [some (.ref x0), some (.int x1), some (.int (x2 + (0 : Int32))), some (.int x3), some (.int (x4 + (1 : Int32)))] [] h25 C26 S27) ∧ (¬ y28 = 0 → ∃ fs35 : List Value, h25 x0 = some (.inr (0, fs35)) ∧ (wq_ci G l d C26 S27 mX1_extended [.ref x0, .int x3, .int x4] h25 (fun y34 h31 C32 S33 => (¬ y34 = x1 → wq_T G l d mX1_possible (wq_qi K) 18 [some (.ref x0), some (.int x1), some (.int (x2 + (0 : Int32))), some (.int x3), some (.int (x4 + (1 : Int32)))] [] h31 C32 S33) ∧ (y34 = x1 → wq_T G l d mX1_possible (wq_qi K) 18 [some (.ref x0), some (.int x1), some (.int (x2 + (1 : Int32))), some (.int x3), some (.int (x4 + (1 : Int32)))] [] h31 C32 S33)))))))))))) → wq_T G l d mX1_possible (wq_qi K) 31 [some (.ref x0), some (.int x1), some (.int x2), some (.int x3), some (.int x4)] [.int y13, .int x4] h10 C11 S12 := by
    intro C11 S12 y13 h10 V
    refine wq_icmp_ge (pc := 31) (tgt := 75) dX1_possible_31 rfl (fun c => ?_) (fun c => ?_)
    · have V := V.1 c
      refine wq_iinc (L' := [some (.ref x0), some (.int x1), some (.int x2), some (.int (x3 + (1 : Int32))), some (.int x4)]) (pc := 75) dX1_possible_75 rfl (by rw [gsti1]) (Nat.le_of_ble_eq_true rfl) rfl ?_
      refine wq_goto (pc := 78) (tgt := 4) dX1_possible_78 rfl ?_
      exact wq_T.less V ⟨rfl, ⟨rfl, ⟨rfl, ⟨rfl, trivial⟩⟩⟩⟩
    · have V := V.2 c
      refine wq_iload_n (pc := 34) dX1_possible_34 rfl rfl ?_
      refine wq_aload_n (pc := 35) dX1_possible_35 rfl rfl ?_
      refine gfq220 (pc := 36) rfl dX1_possible_36 V (fun a16 V => ?_)
      refine wq_iload_n (pc := 39) dX1_possible_39 rfl rfl ?_
      obtain ⟨fs21, w22, V⟩ := V
      refine clq1116 (pc := 40) (As := [.int x3]) (st := [.int x2]) rfl dX1_possible_40 rfl (Nat.le_of_ble_eq_true rfl) w22 V (fun C18 S19 => wx_kq (fun r20 h17 V => ?_))
      refine wq_iload (pc := 43) dX1_possible_43 rfl ?_
      obtain ⟨a23, w24, V⟩ := V
      rw [w24]
      have T : ∀ C26 S27 y28 h25, ((y28 = 0 → wq_T G l d mX1_possible (wq_qi K) 18 [some (.ref x0), some (.int x1), some (.int (x2 + (0 : Int32))), some (.int x3), some (.int (x4 + (1 : Int32)))] [] h25 C26 S27) ∧ (¬ y28 = 0 → ∃ fs35 : List Value, h25 x0 = some (.inr (0, fs35)) ∧ (wq_ci G l d C26 S27 mX1_extended [.ref x0, .int x3, .int x4] h25 (fun y34 h31 C32 S33 => (¬ y34 = x1 → wq_T G l d mX1_possible (wq_qi K) 18 [some (.ref x0), some (.int x1), some (.int (x2 + (0 : Int32))), some (.int x3), some (.int (x4 + (1 : Int32)))] [] h31 C32 S33) ∧ (y34 = x1 → wq_T G l d mX1_possible (wq_qi K) 18 [some (.ref x0), some (.int x1), some (.int (x2 + (1 : Int32))), some (.int x3), some (.int (x4 + (1 : Int32)))] [] h31 C32 S33))))) → wq_T G l d mX1_possible (wq_qi K) 48 [some (.ref x0), some (.int x1), some (.int x2), some (.int x3), some (.int x4)] [.int y28, .int x2] h25 C26 S27 := by
        intro C26 S27 y28 h25 V
        refine wq_if_eq (pc := 48) (tgt := 66) dX1_possible_48 rfl (fun c => ?_) (fun c => ?_)
        · have V := V.1 c
          refine wq_iconst (pc := 66) dX1_possible_66 gsti0 ?_
          refine wq_iadd (pc := 67) dX1_possible_67 ?_
          refine wq_istore_n (L' := [some (.ref x0), some (.int x1), some (.int (x2 + (0 : Int32))), some (.int x3), some (.int x4)]) (pc := 68) dX1_possible_68 rfl (Nat.le_of_ble_eq_true rfl) rfl ?_
          refine wq_iinc (L' := [some (.ref x0), some (.int x1), some (.int (x2 + (0 : Int32))), some (.int x3), some (.int (x4 + (1 : Int32)))]) (pc := 69) dX1_possible_69 rfl (by rw [gsti1]) (Nat.le_of_ble_eq_true rfl) rfl ?_
          refine wq_goto (pc := 72) (tgt := 18) dX1_possible_72 rfl ?_
          exact wq_T.less V ⟨rfl, ⟨rfl, ⟨rfl, ⟨rfl, ⟨rfl, trivial⟩⟩⟩⟩⟩
        · have V := V.2 c
          refine wq_aload_n (pc := 51) dX1_possible_51 rfl rfl ?_
          refine wq_iload_n (pc := 52) dX1_possible_52 rfl rfl ?_
          refine wq_iload (pc := 53) dX1_possible_53 rfl ?_
          obtain ⟨fs35, w36, V⟩ := V
          refine clq1084 (pc := 55) (As := [.int x3, .int x4]) (st := [.int x2]) rfl dX1_possible_55 rfl (Nat.le_of_ble_eq_true rfl) w36 V (fun C32 S33 => wx_ki (fun y34 h31 V => ?_))
          refine wq_iload_n (pc := 58) dX1_possible_58 rfl rfl ?_
          refine wq_icmp_ne (pc := 59) (tgt := 66) dX1_possible_59 rfl (fun c => ?_) (fun c => ?_)
          · have V := V.1 c
            refine wq_iconst (pc := 66) dX1_possible_66 gsti0 ?_
            refine wq_iadd (pc := 67) dX1_possible_67 ?_
            refine wq_istore_n (L' := [some (.ref x0), some (.int x1), some (.int (x2 + (0 : Int32))), some (.int x3), some (.int x4)]) (pc := 68) dX1_possible_68 rfl (Nat.le_of_ble_eq_true rfl) rfl ?_
            refine wq_iinc (L' := [some (.ref x0), some (.int x1), some (.int (x2 + (0 : Int32))), some (.int x3), some (.int (x4 + (1 : Int32)))]) (pc := 69) dX1_possible_69 rfl (by rw [gsti1]) (Nat.le_of_ble_eq_true rfl) rfl ?_
            refine wq_goto (pc := 72) (tgt := 18) dX1_possible_72 rfl ?_
            exact wq_T.less V ⟨rfl, ⟨rfl, ⟨rfl, ⟨rfl, ⟨rfl, trivial⟩⟩⟩⟩⟩
          · have V := V.2 c
            refine wq_iconst (pc := 62) dX1_possible_62 gsti1 ?_
            refine wq_goto (pc := 63) (tgt := 67) dX1_possible_63 rfl ?_
            refine wq_iadd (pc := 67) dX1_possible_67 ?_
            refine wq_istore_n (L' := [some (.ref x0), some (.int x1), some (.int (x2 + (1 : Int32))), some (.int x3), some (.int x4)]) (pc := 68) dX1_possible_68 rfl (Nat.le_of_ble_eq_true rfl) rfl ?_
            refine wq_iinc (L' := [some (.ref x0), some (.int x1), some (.int (x2 + (1 : Int32))), some (.int x3), some (.int (x4 + (1 : Int32)))]) (pc := 69) dX1_possible_69 rfl (by rw [gsti1]) (Nat.le_of_ble_eq_true rfl) rfl ?_
            refine wq_goto (pc := 72) (tgt := 18) dX1_possible_72 rfl ?_
            exact wq_T.less V ⟨rfl, ⟨rfl, ⟨rfl, ⟨rfl, ⟨rfl, trivial⟩⟩⟩⟩⟩
      rcases V with ⟨fs29, w30, V⟩ | ⟨fs29, w30, V⟩
      · exact clq1118_8 (pc := 45) (As := [.int x4]) (st := [.int x2]) rfl dX1_possible_45 rfl (Nat.le_of_ble_eq_true rfl) w30 V (fun C26 S27 => wx_ki (fun y28 h25 V => T C26 S27 y28 h25 V))
      · exact clq1118_9 (pc := 45) (As := [.int x4]) (st := [.int x2]) rfl dX1_possible_45 rfl (Nat.le_of_ble_eq_true rfl) w30 V (fun C26 S27 => wx_ki (fun y28 h25 V => T C26 S27 y28 h25 V))
  rcases V with ⟨fs14, w15, V⟩ | ⟨fs14, w15, V⟩
  · exact clq1117_8 (pc := 28) (As := []) (st := [.int x4]) rfl dX1_possible_28 rfl (Nat.le_of_ble_eq_true rfl) w15 V (fun C11 S12 => wx_ki (fun y13 h10 V => T C11 S12 y13 h10 V))
  · exact clq1117_9 (pc := 28) (As := []) (st := [.int x4]) rfl dX1_possible_28 rfl (Nat.le_of_ble_eq_true rfl) w15 V (fun C11 S12 => wx_ki (fun y13 h10 V => T C11 S12 y13 h10 V))
theorem vX1_hidden_0 {G : wq_G} {l : Launch} {d C S : Nat} {K : Int32 → wq_H → Prop} {x0 : Nat} {h : wq_H} (V : wq_gQ h x0 [(0, 5)] (fun r1 => (r1 = none → ∃ fs7 : List Value, h x0 = some (.inr (0, fs7)) ∧ (wq_ci G l d C S mX1_refused [.ref x0, .int (1 : Int32)] h (fun y6 h3 C4 S5 => K y6 h3))) ∧ (∀ a2, r1 = some a2 → wq_T G l d mX1_hidden (wq_qi K) 17 [some (.ref x0), some (.int (0 : Int32)), some (.int (0 : Int32))] [] h C S))) : wq_T G l d mX1_hidden (wq_qi K) 0 [some (.ref x0), none, none] [] h C S := by
  refine wq_aload_n (pc := 0) dX1_hidden_0 rfl rfl ?_
  refine gfq219 (pc := 1) rfl dX1_hidden_1 V (fun r1 V => ?_)
  refine wq_ifnonnull (pc := 4) (tgt := 13) dX1_hidden_4 rfl (fun a2 c => ?_) (fun c => ?_)
  · subst c
    have V := V.2 a2 rfl
    refine wq_iconst (pc := 13) dX1_hidden_13 gsti0 ?_
    refine wq_istore_n (L' := [some (.ref x0), some (.int (0 : Int32)), none]) (pc := 14) dX1_hidden_14 rfl (Nat.le_of_ble_eq_true rfl) rfl ?_
    refine wq_iconst (pc := 15) dX1_hidden_15 gsti0 ?_
    refine wq_istore_n (L' := [some (.ref x0), some (.int (0 : Int32)), some (.int (0 : Int32))]) (pc := 16) dX1_hidden_16 rfl (Nat.le_of_ble_eq_true rfl) rfl ?_
    exact wq_T.less V ⟨rfl, ⟨rfl, ⟨rfl, trivial⟩⟩⟩
  · subst c
    have V := V.1 rfl
    refine wq_aload_n (pc := 7) dX1_hidden_7 rfl rfl ?_
    refine wq_iconst (pc := 8) dX1_hidden_8 gsti1 ?_
    obtain ⟨fs7, w8, V⟩ := V
    refine clq259 (pc := 9) (As := [.int (1 : Int32)]) (st := []) rfl dX1_hidden_9 rfl (Nat.le_of_ble_eq_true rfl) w8 V (fun C4 S5 => wx_ki (fun y6 h3 V => ?_))
    refine wq_iret (pc := 12) dX1_hidden_12 rfl ⟨_, rfl, V⟩
theorem vX1_hidden_17 {G : wq_G} {l : Launch} {d C S : Nat} {K : Int32 → wq_H → Prop} {x0 : Nat} {x1 : Int32} {x2 : Int32} {h : wq_H} (V : wq_gQ h x0 [(0, 5)] (fun r1 => ∃ a2, r1 = some a2 ∧ (∃ fs8 : List Value, h a2 = some (.inr (5, fs8)) ∧ (wq_ci G l d C S mX6_hiddens [.ref a2] h (fun y7 h4 C5 S6 => (y7 ≤ x2 → ∃ fs14 : List Value, h4 x0 = some (.inr (0, fs14)) ∧ (wq_ci G l d C5 S6 mX1_well [.ref x0, .int x1] h4 (fun y13 h10 C11 S12 => K y13 h10))) ∧ (¬ y7 ≤ x2 → wq_gR h4 x0 [(0, 6)] (fun a16 => ∃ fs21 : List Value, h4 a16 = some (.inr (6, fs21)) ∧ (wq_ci G l d C5 S6 mX7_fits [.ref a16, .int x2, .int (-1 : Int32)] h4 (fun y20 h17 C18 S19 => (y20 = 0 → wq_T G l d mX1_hidden (wq_qi K) 17 [some (.ref x0), some (.int (x1 + (0 : Int32))), some (.int (x2 + (1 : Int32)))] [] h17 C18 S19) ∧ (¬ y20 = 0 → wq_T G l d mX1_hidden (wq_qi K) 17 [some (.ref x0), some (.int (x1 + (1 : Int32))), some (.int (x2 + (1 : Int32)))] [] h17 C18 S19)))))))))) : wq_T G l d mX1_hidden (wq_qi K) 17 [some (.ref x0), some (.int x1), some (.int x2)] [] h C S := by
  refine wq_iload_n (pc := 17) dX1_hidden_17 rfl rfl ?_
  refine wq_aload_n (pc := 18) dX1_hidden_18 rfl rfl ?_
  refine gfq219 (pc := 19) rfl dX1_hidden_19 V (fun r1 V => ?_)
  obtain ⟨a2, w3, V⟩ := V
  rw [w3]
  obtain ⟨fs8, w9, V⟩ := V
  refine clq997 (pc := 22) (As := []) (st := [.int x2]) rfl dX1_hidden_22 rfl (Nat.le_of_ble_eq_true rfl) w9 V (fun C5 S6 => wx_ki (fun y7 h4 V => ?_))
  refine wq_icmp_ge (pc := 25) (tgt := 54) dX1_hidden_25 rfl (fun c => ?_) (fun c => ?_)
  · have V := V.1 c
    refine wq_aload_n (pc := 54) dX1_hidden_54 rfl rfl ?_
    refine wq_iload_n (pc := 55) dX1_hidden_55 rfl rfl ?_
    obtain ⟨fs14, w15, V⟩ := V
    refine clq977 (pc := 56) (As := [.int x1]) (st := []) rfl dX1_hidden_56 rfl (Nat.le_of_ble_eq_true rfl) w15 V (fun C11 S12 => wx_ki (fun y13 h10 V => ?_))
    refine wq_iret (pc := 59) dX1_hidden_59 rfl ⟨_, rfl, V⟩
  · have V := V.2 c
    refine wq_iload_n (pc := 28) dX1_hidden_28 rfl rfl ?_
    refine wq_aload_n (pc := 29) dX1_hidden_29 rfl rfl ?_
    refine gfq220 (pc := 30) rfl dX1_hidden_30 V (fun a16 V => ?_)
    refine wq_iload_n (pc := 33) dX1_hidden_33 rfl rfl ?_
    refine wq_iconst (pc := 34) dX1_hidden_34 gstim1 ?_
    obtain ⟨fs21, w22, V⟩ := V
    refine clq1123 (pc := 35) (As := [.int x2, .int (-1 : Int32)]) (st := [.int x1]) rfl dX1_hidden_35 rfl (Nat.le_of_ble_eq_true rfl) w22 V (fun C18 S19 => wx_ki (fun y20 h17 V => ?_))
    refine wq_if_eq (pc := 38) (tgt := 45) dX1_hidden_38 rfl (fun c => ?_) (fun c => ?_)
    · have V := V.1 c
      refine wq_iconst (pc := 45) dX1_hidden_45 gsti0 ?_
      refine wq_iadd (pc := 46) dX1_hidden_46 ?_
      refine wq_istore_n (L' := [some (.ref x0), some (.int (x1 + (0 : Int32))), some (.int x2)]) (pc := 47) dX1_hidden_47 rfl (Nat.le_of_ble_eq_true rfl) rfl ?_
      refine wq_iinc (L' := [some (.ref x0), some (.int (x1 + (0 : Int32))), some (.int (x2 + (1 : Int32)))]) (pc := 48) dX1_hidden_48 rfl (by rw [gsti1]) (Nat.le_of_ble_eq_true rfl) rfl ?_
      refine wq_goto (pc := 51) (tgt := 17) dX1_hidden_51 rfl ?_
      exact wq_T.less V ⟨rfl, ⟨rfl, ⟨rfl, trivial⟩⟩⟩
    · have V := V.2 c
      refine wq_iconst (pc := 41) dX1_hidden_41 gsti1 ?_
      refine wq_goto (pc := 42) (tgt := 46) dX1_hidden_42 rfl ?_
      refine wq_iadd (pc := 46) dX1_hidden_46 ?_
      refine wq_istore_n (L' := [some (.ref x0), some (.int (x1 + (1 : Int32))), some (.int x2)]) (pc := 47) dX1_hidden_47 rfl (Nat.le_of_ble_eq_true rfl) rfl ?_
      refine wq_iinc (L' := [some (.ref x0), some (.int (x1 + (1 : Int32))), some (.int (x2 + (1 : Int32)))]) (pc := 48) dX1_hidden_48 rfl (by rw [gsti1]) (Nat.le_of_ble_eq_true rfl) rfl ?_
      refine wq_goto (pc := 51) (tgt := 17) dX1_hidden_51 rfl ?_
      exact wq_T.less V ⟨rfl, ⟨rfl, ⟨rfl, trivial⟩⟩⟩
theorem vX1_answer_0 {G : wq_G} {l : Launch} {d C S : Nat} {K : Int32 → wq_H → Prop} {x0 : Nat} {x1 : Int32} {h : wq_H} (V : wq_T G l d mX1_answer (wq_qi K) 4 [some (.ref x0), some (.int x1), some (.int (0 : Int32)), some (.int (0 : Int32))] [] h C S) : wq_T G l d mX1_answer (wq_qi K) 0 [some (.ref x0), some (.int x1), none, none] [] h C S := by
  refine wq_iconst (pc := 0) dX1_answer_0 gsti0 ?_
  refine wq_istore_n (L' := [some (.ref x0), some (.int x1), some (.int (0 : Int32)), none]) (pc := 1) dX1_answer_1 rfl (Nat.le_of_ble_eq_true rfl) rfl ?_
  refine wq_iconst (pc := 2) dX1_answer_2 gsti0 ?_
  refine wq_istore_n (L' := [some (.ref x0), some (.int x1), some (.int (0 : Int32)), some (.int (0 : Int32))]) (pc := 3) dX1_answer_3 rfl (Nat.le_of_ble_eq_true rfl) rfl ?_
  exact wq_T.less V ⟨rfl, ⟨rfl, ⟨rfl, ⟨rfl, trivial⟩⟩⟩⟩
theorem vX1_answer_4 {G : wq_G} {l : Launch} {d C S : Nat} {K : Int32 → wq_H → Prop} {x0 : Nat} {x1 : Int32} {x2 : Int32} {x3 : Int32} {h : wq_H} (V : wq_gQ h x0 [(0, 5)] (fun r1 => (r1 = none → ∃ fs7 : List Value, h x0 = some (.inr (0, fs7)) ∧ (wq_ci G l d C S mX1_refused [.ref x0, .int (1 : Int32)] h (fun y6 h3 C4 S5 => K y6 h3))) ∧ (∀ a2, r1 = some a2 → wq_gQ h x0 [(0, 5)] (fun r9 => ∃ a10, r9 = some a10 ∧ (∃ fs16 : List Value, h a10 = some (.inr (5, fs16)) ∧ (wq_ci G l d C S mX6_hiddens [.ref a10] h (fun y15 h12 C13 S14 => (y15 ≤ x3 → ∃ fs22 : List Value, h12 x0 = some (.inr (0, fs22)) ∧ (wq_ci G l d C13 S14 mX1_refused [.ref x0, .int (1 : Int32)] h12 (fun y21 h18 C19 S20 => K y21 h18))) ∧ (¬ y15 ≤ x3 → wq_gR h12 x0 [(0, 6)] (fun a24 => ∃ fs29 : List Value, h12 a24 = some (.inr (6, fs29)) ∧ (wq_ci G l d C13 S14 mX7_fits [.ref a24, .int x3, .int (-1 : Int32)] h12 (fun y28 h25 C26 S27 => (¬ y28 = 0 → (¬ x2 = x1 → wq_T G l d mX1_answer (wq_qi K) 4 [some (.ref x0), some (.int x1), some (.int (x2 + (1 : Int32))), some (.int (x3 + (1 : Int32)))] [] h25 C26 S27) ∧ (x2 = x1 → ∃ fs35 : List Value, h25 x0 = some (.inr (0, fs35)) ∧ (wq_ci G l d C26 S27 mX1_well [.ref x0, .int x3] h25 (fun y34 h31 C32 S33 => K y34 h31)))) ∧ (y28 = 0 → wq_T G l d mX1_answer (wq_qi K) 4 [some (.ref x0), some (.int x1), some (.int x2), some (.int (x3 + (1 : Int32)))] [] h25 C26 S27)))))))))))) : wq_T G l d mX1_answer (wq_qi K) 4 [some (.ref x0), some (.int x1), some (.int x2), some (.int x3)] [] h C S := by
  refine wq_aload_n (pc := 4) dX1_answer_4 rfl rfl ?_
  refine gfq219 (pc := 5) rfl dX1_answer_5 V (fun r1 V => ?_)
  refine wq_ifnull (pc := 8) (tgt := 57) dX1_answer_8 rfl (fun c => ?_) (fun a2 c => ?_)
  · subst c
    have V := V.1 rfl
    refine wq_aload_n (pc := 57) dX1_answer_57 rfl rfl ?_
    refine wq_iconst (pc := 58) dX1_answer_58 gsti1 ?_
    obtain ⟨fs7, w8, V⟩ := V
    refine clq259 (pc := 59) (As := [.int (1 : Int32)]) (st := []) rfl dX1_answer_59 rfl (Nat.le_of_ble_eq_true rfl) w8 V (fun C4 S5 => wx_ki (fun y6 h3 V => ?_))
    refine wq_iret (pc := 62) dX1_answer_62 rfl ⟨_, rfl, V⟩
  · subst c
    have V := V.2 a2 rfl
    refine wq_iload_n (pc := 11) dX1_answer_11 rfl rfl ?_
    refine wq_aload_n (pc := 12) dX1_answer_12 rfl rfl ?_
    refine gfq219 (pc := 13) rfl dX1_answer_13 V (fun r9 V => ?_)
    obtain ⟨a10, w11, V⟩ := V
    rw [w11]
    obtain ⟨fs16, w17, V⟩ := V
    refine clq997 (pc := 16) (As := []) (st := [.int x3]) rfl dX1_answer_16 rfl (Nat.le_of_ble_eq_true rfl) w17 V (fun C13 S14 => wx_ki (fun y15 h12 V => ?_))
    refine wq_icmp_ge (pc := 19) (tgt := 57) dX1_answer_19 rfl (fun c => ?_) (fun c => ?_)
    · have V := V.1 c
      refine wq_aload_n (pc := 57) dX1_answer_57 rfl rfl ?_
      refine wq_iconst (pc := 58) dX1_answer_58 gsti1 ?_
      obtain ⟨fs22, w23, V⟩ := V
      refine clq259 (pc := 59) (As := [.int (1 : Int32)]) (st := []) rfl dX1_answer_59 rfl (Nat.le_of_ble_eq_true rfl) w23 V (fun C19 S20 => wx_ki (fun y21 h18 V => ?_))
      refine wq_iret (pc := 62) dX1_answer_62 rfl ⟨_, rfl, V⟩
    · have V := V.2 c
      refine wq_aload_n (pc := 22) dX1_answer_22 rfl rfl ?_
      refine gfq220 (pc := 23) rfl dX1_answer_23 V (fun a24 V => ?_)
      refine wq_iload_n (pc := 26) dX1_answer_26 rfl rfl ?_
      refine wq_iconst (pc := 27) dX1_answer_27 gstim1 ?_
      obtain ⟨fs29, w30, V⟩ := V
      refine clq1123 (pc := 28) (As := [.int x3, .int (-1 : Int32)]) (st := []) rfl dX1_answer_28 rfl (Nat.le_of_ble_eq_true rfl) w30 V (fun C26 S27 => wx_ki (fun y28 h25 V => ?_))
      refine wq_if_ne (pc := 31) (tgt := 37) dX1_answer_31 rfl (fun c => ?_) (fun c => ?_)
      · have V := V.1 c
        refine wq_iload_n (pc := 37) dX1_answer_37 rfl rfl ?_
        refine wq_iload_n (pc := 38) dX1_answer_38 rfl rfl ?_
        refine wq_icmp_ne (pc := 39) (tgt := 48) dX1_answer_39 rfl (fun c => ?_) (fun c => ?_)
        · have V := V.1 c
          refine wq_iinc (L' := [some (.ref x0), some (.int x1), some (.int (x2 + (1 : Int32))), some (.int x3)]) (pc := 48) dX1_answer_48 rfl (by rw [gsti1]) (Nat.le_of_ble_eq_true rfl) rfl ?_
          refine wq_iinc (L' := [some (.ref x0), some (.int x1), some (.int (x2 + (1 : Int32))), some (.int (x3 + (1 : Int32)))]) (pc := 51) dX1_answer_51 rfl (by rw [gsti1]) (Nat.le_of_ble_eq_true rfl) rfl ?_
          refine wq_goto (pc := 54) (tgt := 4) dX1_answer_54 rfl ?_
          exact wq_T.less V ⟨rfl, ⟨rfl, ⟨rfl, ⟨rfl, trivial⟩⟩⟩⟩
        · have V := V.2 c
          refine wq_aload_n (pc := 42) dX1_answer_42 rfl rfl ?_
          refine wq_iload_n (pc := 43) dX1_answer_43 rfl rfl ?_
          obtain ⟨fs35, w36, V⟩ := V
          refine clq977 (pc := 44) (As := [.int x3]) (st := []) rfl dX1_answer_44 rfl (Nat.le_of_ble_eq_true rfl) w36 V (fun C32 S33 => wx_ki (fun y34 h31 V => ?_))
          refine wq_iret (pc := 47) dX1_answer_47 rfl ⟨_, rfl, V⟩
      · have V := V.2 c
        refine wq_goto (pc := 34) (tgt := 51) dX1_answer_34 rfl ?_
        refine wq_iinc (L' := [some (.ref x0), some (.int x1), some (.int x2), some (.int (x3 + (1 : Int32)))]) (pc := 51) dX1_answer_51 rfl (by rw [gsti1]) (Nat.le_of_ble_eq_true rfl) rfl ?_
        refine wq_goto (pc := 54) (tgt := 4) dX1_answer_54 rfl ?_
        exact wq_T.less V ⟨rfl, ⟨rfl, ⟨rfl, ⟨rfl, trivial⟩⟩⟩⟩
theorem vX1_disturbed_0 {G : wq_G} {l : Launch} {d C S : Nat} {K : Int32 → wq_H → Prop} {x0 : Nat} {h : wq_H} (V : wq_gQ h x0 [(0, 5)] (fun r1 => (r1 = none → ∃ fs7 : List Value, h x0 = some (.inr (0, fs7)) ∧ (wq_ci G l d C S mX1_refused [.ref x0, .int (1 : Int32)] h (fun y6 h3 C4 S5 => K y6 h3))) ∧ (∀ a2, r1 = some a2 → wq_gR h x0 [(0, 6)] (fun a9 => wq_gQ h x0 [(0, 5)] (fun r10 => ∃ a11, r10 = some a11 ∧ (wq_gI h a11 [(5, 1)] (fun y13 => ∃ fs18 : List Value, h a9 = some (.inr (6, fs18)) ∧ (wq_ci G l d C S mX7_disturbed [.ref a9, .int y13] h (fun y17 h14 C15 S16 => ∃ fs24 : List Value, h14 x0 = some (.inr (0, fs24)) ∧ (wq_ci G l d C15 S16 mX1_well [.ref x0, .int y17] h14 (fun y23 h20 C21 S22 => K y23 h20))))))))))) : wq_T G l d mX1_disturbed (wq_qi K) 0 [some (.ref x0)] [] h C S := by
  refine wq_aload_n (pc := 0) dX1_disturbed_0 rfl rfl ?_
  refine gfq219 (pc := 1) rfl dX1_disturbed_1 V (fun r1 V => ?_)
  refine wq_ifnonnull (pc := 4) (tgt := 15) dX1_disturbed_4 rfl (fun a2 c => ?_) (fun c => ?_)
  · subst c
    have V := V.2 a2 rfl
    refine wq_aload_n (pc := 15) dX1_disturbed_15 rfl rfl ?_
    refine wq_aload_n (pc := 16) dX1_disturbed_16 rfl rfl ?_
    refine gfq220 (pc := 17) rfl dX1_disturbed_17 V (fun a9 V => ?_)
    refine wq_aload_n (pc := 20) dX1_disturbed_20 rfl rfl ?_
    refine gfq219 (pc := 21) rfl dX1_disturbed_21 V (fun r10 V => ?_)
    obtain ⟨a11, w12, V⟩ := V
    rw [w12]
    refine gfq310 (pc := 24) rfl dX1_disturbed_24 V (fun y13 V => ?_)
    obtain ⟨fs18, w19, V⟩ := V
    refine clq1132 (pc := 27) (As := [.int y13]) (st := [.ref x0]) rfl dX1_disturbed_27 rfl (Nat.le_of_ble_eq_true rfl) w19 V (fun C15 S16 => wx_ki (fun y17 h14 V => ?_))
    obtain ⟨fs24, w25, V⟩ := V
    refine clq977 (pc := 30) (As := [.int y17]) (st := []) rfl dX1_disturbed_30 rfl (Nat.le_of_ble_eq_true rfl) w25 V (fun C21 S22 => wx_ki (fun y23 h20 V => ?_))
    refine wq_iret (pc := 33) dX1_disturbed_33 rfl ⟨_, rfl, V⟩
  · subst c
    have V := V.1 rfl
    refine wq_aload_n (pc := 7) dX1_disturbed_7 rfl rfl ?_
    refine wq_iconst (pc := 8) dX1_disturbed_8 gsti1 ?_
    obtain ⟨fs7, w8, V⟩ := V
    refine clq259 (pc := 9) (As := [.int (1 : Int32)]) (st := []) rfl dX1_disturbed_9 rfl (Nat.le_of_ble_eq_true rfl) w8 V (fun C4 S5 => wx_ki (fun y6 h3 V => ?_))
    refine wq_goto (pc := 12) (tgt := 33) dX1_disturbed_12 rfl ?_
    refine wq_iret (pc := 33) dX1_disturbed_33 rfl ⟨_, rfl, V⟩
theorem vX1_same_0 {G : wq_G} {l : Launch} {d C S : Nat} {K : Int32 → wq_H → Prop} {x0 : Nat} {x1 : Int32} {h : wq_H} (V : ∃ fs5 : List Value, h x0 = some (.inr (0, fs5)) ∧ (wq_ci G l d C S mX1_isSet [.ref x0, .int x1] h (fun y4 h1 C2 S3 => (y4 = 0 → ∃ fs11 : List Value, h1 x0 = some (.inr (0, fs11)) ∧ (wq_ci G l d C2 S3 mX1_refused [.ref x0, .int (1 : Int32)] h1 (fun y10 h7 C8 S9 => K (-1000 : Int32) h7))) ∧ (¬ y4 = 0 → wq_gR h1 x0 [(0, 6)] (fun a13 => ∃ fs18 : List Value, h1 a13 = some (.inr (6, fs18)) ∧ (wq_cq G l d C2 S3 mX7_set [.ref a13, .int x1] h1 (fun r17 h14 C15 S16 => ∃ a20, r17 = some a20 ∧ ((∃ fs26 : List Value, h14 a20 = some (.inr (8, fs26)) ∧ wq_ci G l d C15 S16 mX10_outcomes [.ref a20] h14 (fun y25 h22 C23 S24 => (¬ y25 = (4 : Int32) → ∃ fs32 : List Value, h22 x0 = some (.inr (0, fs32)) ∧ (wq_ci G l d C23 S24 mX1_refused [.ref x0, .int (1 : Int32)] h22 (fun y31 h28 C29 S30 => K (-1000 : Int32) h28))) ∧ (y25 = (4 : Int32) → wq_gR h22 x0 [(0, 6)] (fun a34 => ∃ fs39 : List Value, h22 a34 = some (.inr (6, fs39)) ∧ (wq_cq G l d C23 S24 mX7_set [.ref a34, .int x1] h22 (fun r38 h35 C36 S37 => ∃ a41, r38 = some a41 ∧ ((∃ fs47 : List Value, h35 a41 = some (.inr (8, fs47)) ∧ wq_ci G l d C36 S37 mX9_same [.ref a41] h35 (fun y46 h43 C44 S45 => ∃ fs53 : List Value, h43 x0 = some (.inr (0, fs53)) ∧ (wq_ci G l d C44 S45 mX1_well [.ref x0, .int y46] h43 (fun y52 h49 C50 S51 => K y52 h49)))) ∨ (∃ fs47 : List Value, h35 a41 = some (.inr (9, fs47)) ∧ wq_ci G l d C36 S37 mX11_same [.ref a41] h35 (fun y46 h43 C44 S45 => ∃ fs53 : List Value, h43 x0 = some (.inr (0, fs53)) ∧ (wq_ci G l d C44 S45 mX1_well [.ref x0, .int y46] h43 (fun y52 h49 C50 S51 => K y52 h49))))))))))) ∨ (∃ fs26 : List Value, h14 a20 = some (.inr (9, fs26)) ∧ wq_ci G l d C15 S16 mX11_outcomes [.ref a20] h14 (fun y25 h22 C23 S24 => (¬ y25 = (4 : Int32) → ∃ fs32 : List Value, h22 x0 = some (.inr (0, fs32)) ∧ (wq_ci G l d C23 S24 mX1_refused [.ref x0, .int (1 : Int32)] h22 (fun y31 h28 C29 S30 => K (-1000 : Int32) h28))) ∧ (y25 = (4 : Int32) → wq_gR h22 x0 [(0, 6)] (fun a34 => ∃ fs39 : List Value, h22 a34 = some (.inr (6, fs39)) ∧ (wq_cq G l d C23 S24 mX7_set [.ref a34, .int x1] h22 (fun r38 h35 C36 S37 => ∃ a41, r38 = some a41 ∧ ((∃ fs47 : List Value, h35 a41 = some (.inr (8, fs47)) ∧ wq_ci G l d C36 S37 mX9_same [.ref a41] h35 (fun y46 h43 C44 S45 => ∃ fs53 : List Value, h43 x0 = some (.inr (0, fs53)) ∧ (wq_ci G l d C44 S45 mX1_well [.ref x0, .int y46] h43 (fun y52 h49 C50 S51 => K y52 h49)))) ∨ (∃ fs47 : List Value, h35 a41 = some (.inr (9, fs47)) ∧ wq_ci G l d C36 S37 mX11_same [.ref a41] h35 (fun y46 h43 C44 S45 => ∃ fs53 : List Value, h43 x0 = some (.inr (0, fs53)) ∧ (wq_ci G l d C44 S45 mX1_well [.ref x0, .int y46] h43 (fun y52 h49 C50 S51 => K y52 h49))))))))))))))))))) : wq_T G l d mX1_same (wq_qi K) 0 [some (.ref x0), some (.int x1)] [] h C S := by
  refine wq_aload_n (pc := 0) dX1_same_0 rfl rfl ?_
  refine wq_iload_n (pc := 1) dX1_same_1 rfl rfl ?_
  obtain ⟨fs5, w6, V⟩ := V
  refine clq1173 (pc := 2) (As := [.int x1]) (st := []) rfl dX1_same_2 rfl (Nat.le_of_ble_eq_true rfl) w6 V (fun C2 S3 => wx_ki (fun y4 h1 V => ?_))
  refine wq_if_eq (pc := 5) (tgt := 39) dX1_same_5 rfl (fun c => ?_) (fun c => ?_)
  · have V := V.1 c
    refine wq_aload_n (pc := 39) dX1_same_39 rfl rfl ?_
    refine wq_iconst (pc := 40) dX1_same_40 gsti1 ?_
    obtain ⟨fs11, w12, V⟩ := V
    refine clq259 (pc := 41) (As := [.int (1 : Int32)]) (st := []) rfl dX1_same_41 rfl (Nat.le_of_ble_eq_true rfl) w12 V (fun C8 S9 => wx_ki (fun y10 h7 V => ?_))
    refine wq_pop (pc := 44) dX1_same_44 rfl ?_
    refine wq_sipush (pc := 45) dX1_same_45 gstsm1000 ?_
    refine wq_iret (pc := 48) dX1_same_48 rfl ⟨_, rfl, V⟩
  · have V := V.2 c
    refine wq_aload_n (pc := 8) dX1_same_8 rfl rfl ?_
    refine gfq220 (pc := 9) rfl dX1_same_9 V (fun a13 V => ?_)
    refine wq_iload_n (pc := 12) dX1_same_12 rfl rfl ?_
    obtain ⟨fs18, w19, V⟩ := V
    refine clq1116 (pc := 13) (As := [.int x1]) (st := []) rfl dX1_same_13 rfl (Nat.le_of_ble_eq_true rfl) w19 V (fun C15 S16 => wx_kq (fun r17 h14 V => ?_))
    obtain ⟨a20, w21, V⟩ := V
    rw [w21]
    have T : ∀ C23 S24 y25 h22, ((¬ y25 = (4 : Int32) → ∃ fs32 : List Value, h22 x0 = some (.inr (0, fs32)) ∧ (wq_ci G l d C23 S24 mX1_refused [.ref x0, .int (1 : Int32)] h22 (fun y31 h28 C29 S30 => K (-1000 : Int32) h28))) ∧ (y25 = (4 : Int32) → wq_gR h22 x0 [(0, 6)] (fun a34 => ∃ fs39 : List Value, h22 a34 = some (.inr (6, fs39)) ∧ (wq_cq G l d C23 S24 mX7_set [.ref a34, .int x1] h22 (fun r38 h35 C36 S37 => ∃ a41, r38 = some a41 ∧ ((∃ fs47 : List Value, h35 a41 = some (.inr (8, fs47)) ∧ wq_ci G l d C36 S37 mX9_same [.ref a41] h35 (fun y46 h43 C44 S45 => ∃ fs53 : List Value, h43 x0 = some (.inr (0, fs53)) ∧ (wq_ci G l d C44 S45 mX1_well [.ref x0, .int y46] h43 (fun y52 h49 C50 S51 => K y52 h49)))) ∨ (∃ fs47 : List Value, h35 a41 = some (.inr (9, fs47)) ∧ wq_ci G l d C36 S37 mX11_same [.ref a41] h35 (fun y46 h43 C44 S45 => ∃ fs53 : List Value, h43 x0 = some (.inr (0, fs53)) ∧ (wq_ci G l d C44 S45 mX1_well [.ref x0, .int y46] h43 (fun y52 h49 C50 S51 => K y52 h49)))))))))) → wq_T G l d mX1_same (wq_qi K) 19 [some (.ref x0), some (.int x1)] [.int y25] h22 C23 S24 := by
      intro C23 S24 y25 h22 V
      refine wq_iconst (pc := 19) dX1_same_19 gsti4 ?_
      refine wq_icmp_ne (pc := 20) (tgt := 39) dX1_same_20 rfl (fun c => ?_) (fun c => ?_)
      · have V := V.1 c
        refine wq_aload_n (pc := 39) dX1_same_39 rfl rfl ?_
        refine wq_iconst (pc := 40) dX1_same_40 gsti1 ?_
        obtain ⟨fs32, w33, V⟩ := V
        refine clq259 (pc := 41) (As := [.int (1 : Int32)]) (st := []) rfl dX1_same_41 rfl (Nat.le_of_ble_eq_true rfl) w33 V (fun C29 S30 => wx_ki (fun y31 h28 V => ?_))
        refine wq_pop (pc := 44) dX1_same_44 rfl ?_
        refine wq_sipush (pc := 45) dX1_same_45 gstsm1000 ?_
        refine wq_iret (pc := 48) dX1_same_48 rfl ⟨_, rfl, V⟩
      · have V := V.2 c
        refine wq_aload_n (pc := 23) dX1_same_23 rfl rfl ?_
        refine wq_aload_n (pc := 24) dX1_same_24 rfl rfl ?_
        refine gfq220 (pc := 25) rfl dX1_same_25 V (fun a34 V => ?_)
        refine wq_iload_n (pc := 28) dX1_same_28 rfl rfl ?_
        obtain ⟨fs39, w40, V⟩ := V
        refine clq1116 (pc := 29) (As := [.int x1]) (st := [.ref x0]) rfl dX1_same_29 rfl (Nat.le_of_ble_eq_true rfl) w40 V (fun C36 S37 => wx_kq (fun r38 h35 V => ?_))
        obtain ⟨a41, w42, V⟩ := V
        rw [w42]
        have T : ∀ C44 S45 y46 h43, (∃ fs53 : List Value, h43 x0 = some (.inr (0, fs53)) ∧ (wq_ci G l d C44 S45 mX1_well [.ref x0, .int y46] h43 (fun y52 h49 C50 S51 => K y52 h49))) → wq_T G l d mX1_same (wq_qi K) 35 [some (.ref x0), some (.int x1)] [.int y46, .ref x0] h43 C44 S45 := by
          intro C44 S45 y46 h43 V
          obtain ⟨fs53, w54, V⟩ := V
          refine clq977 (pc := 35) (As := [.int y46]) (st := []) rfl dX1_same_35 rfl (Nat.le_of_ble_eq_true rfl) w54 V (fun C50 S51 => wx_ki (fun y52 h49 V => ?_))
          refine wq_iret (pc := 38) dX1_same_38 rfl ⟨_, rfl, V⟩
        rcases V with ⟨fs47, w48, V⟩ | ⟨fs47, w48, V⟩
        · exact clq1177_8 (pc := 32) (As := []) (st := [.ref x0]) rfl dX1_same_32 rfl (Nat.le_of_ble_eq_true rfl) w48 V (fun C44 S45 => wx_ki (fun y46 h43 V => T C44 S45 y46 h43 V))
        · exact clq1177_9 (pc := 32) (As := []) (st := [.ref x0]) rfl dX1_same_32 rfl (Nat.le_of_ble_eq_true rfl) w48 V (fun C44 S45 => wx_ki (fun y46 h43 V => T C44 S45 y46 h43 V))
    rcases V with ⟨fs26, w27, V⟩ | ⟨fs26, w27, V⟩
    · exact clq1117_8 (pc := 16) (As := []) (st := []) rfl dX1_same_16 rfl (Nat.le_of_ble_eq_true rfl) w27 V (fun C23 S24 => wx_ki (fun y25 h22 V => T C23 S24 y25 h22 V))
    · exact clq1117_9 (pc := 16) (As := []) (st := []) rfl dX1_same_16 rfl (Nat.le_of_ble_eq_true rfl) w27 V (fun C23 S24 => wx_ki (fun y25 h22 V => T C23 S24 y25 h22 V))
theorem vX1_isSet_0 {G : wq_G} {l : Launch} {d C S : Nat} {K : Int32 → wq_H → Prop} {x0 : Nat} {x1 : Int32} {h : wq_H} (V : wq_gQ h x0 [(0, 5)] (fun r1 => (r1 = none → K (0 : Int32) h) ∧ (∀ a2, r1 = some a2 → wq_gR h x0 [(0, 6)] (fun a3 => ∃ fs8 : List Value, h a3 = some (.inr (6, fs8)) ∧ (wq_ci G l d C S mX7_size [.ref a3] h (fun y7 h4 C5 S6 => wq_ci G l d C5 S6 mX1_in [.int x1, .int (0 : Int32), .int (y7 - (1 : Int32))] h4 (fun y13 h10 C11 S12 => (y13 = 0 → K (0 : Int32) h10) ∧ (¬ y13 = 0 → K (1 : Int32) h10)))))))) : wq_T G l d mX1_isSet (wq_qi K) 0 [some (.ref x0), some (.int x1)] [] h C S := by
  refine wq_aload_n (pc := 0) dX1_isSet_0 rfl rfl ?_
  refine gfq219 (pc := 1) rfl dX1_isSet_1 V (fun r1 V => ?_)
  refine wq_ifnull (pc := 4) (tgt := 28) dX1_isSet_4 rfl (fun c => ?_) (fun a2 c => ?_)
  · subst c
    have V := V.1 rfl
    refine wq_iconst (pc := 28) dX1_isSet_28 gsti0 ?_
    refine wq_zret (pc := 29) dX1_isSet_29 rfl gn_b0 ⟨_, rfl, V⟩
  · subst c
    have V := V.2 a2 rfl
    refine wq_iload_n (pc := 7) dX1_isSet_7 rfl rfl ?_
    refine wq_iconst (pc := 8) dX1_isSet_8 gsti0 ?_
    refine wq_aload_n (pc := 9) dX1_isSet_9 rfl rfl ?_
    refine gfq220 (pc := 10) rfl dX1_isSet_10 V (fun a3 V => ?_)
    obtain ⟨fs8, w9, V⟩ := V
    refine clq1115 (pc := 13) (As := []) (st := [.int (0 : Int32), .int x1]) rfl dX1_isSet_13 rfl (Nat.le_of_ble_eq_true rfl) w9 V (fun C5 S6 => wx_ki (fun y7 h4 V => ?_))
    refine wq_iconst (pc := 16) dX1_isSet_16 gsti1 ?_
    refine wq_isub (pc := 17) dX1_isSet_17 ?_
    refine clq256 (pc := 18) (As := [.int x1, .int (0 : Int32), .int (y7 - (1 : Int32))]) (st := []) rfl dX1_isSet_18 rfl (Nat.le_of_ble_eq_true rfl) V (fun C11 S12 => wx_ki (fun y13 h10 V => ?_))
    refine wq_if_eq (pc := 21) (tgt := 28) dX1_isSet_21 rfl (fun c => ?_) (fun c => ?_)
    · have V := V.1 c
      refine wq_iconst (pc := 28) dX1_isSet_28 gsti0 ?_
      refine wq_zret (pc := 29) dX1_isSet_29 rfl gn_b0 ⟨_, rfl, V⟩
    · have V := V.2 c
      refine wq_iconst (pc := 24) dX1_isSet_24 gsti1 ?_
      refine wq_goto (pc := 25) (tgt := 29) dX1_isSet_25 rfl ?_
      refine wq_zret (pc := 29) dX1_isSet_29 rfl gn_b1 ⟨_, rfl, V⟩
theorem vX1_cycles_0 {G : wq_G} {l : Launch} {d C S : Nat} {K : Int32 → wq_H → Prop} {x0 : Nat} {h : wq_H} (V : wq_gQ h x0 [(0, 5)] (fun r1 => (r1 = none → ∃ fs7 : List Value, h x0 = some (.inr (0, fs7)) ∧ (wq_ci G l d C S mX1_refused [.ref x0, .int (1 : Int32)] h (fun y6 h3 C4 S5 => K y6 h3))) ∧ (∀ a2, r1 = some a2 → wq_T G l d mX1_cycles (wq_qi K) 17 [some (.ref x0), some (.int (0 : Int32)), some (.int (0 : Int32))] [] h C S))) : wq_T G l d mX1_cycles (wq_qi K) 0 [some (.ref x0), none, none] [] h C S := by
  refine wq_aload_n (pc := 0) dX1_cycles_0 rfl rfl ?_
  refine gfq219 (pc := 1) rfl dX1_cycles_1 V (fun r1 V => ?_)
  refine wq_ifnonnull (pc := 4) (tgt := 13) dX1_cycles_4 rfl (fun a2 c => ?_) (fun c => ?_)
  · subst c
    have V := V.2 a2 rfl
    refine wq_iconst (pc := 13) dX1_cycles_13 gsti0 ?_
    refine wq_istore_n (L' := [some (.ref x0), some (.int (0 : Int32)), none]) (pc := 14) dX1_cycles_14 rfl (Nat.le_of_ble_eq_true rfl) rfl ?_
    refine wq_iconst (pc := 15) dX1_cycles_15 gsti0 ?_
    refine wq_istore_n (L' := [some (.ref x0), some (.int (0 : Int32)), some (.int (0 : Int32))]) (pc := 16) dX1_cycles_16 rfl (Nat.le_of_ble_eq_true rfl) rfl ?_
    exact wq_T.less V ⟨rfl, ⟨rfl, ⟨rfl, trivial⟩⟩⟩
  · subst c
    have V := V.1 rfl
    refine wq_aload_n (pc := 7) dX1_cycles_7 rfl rfl ?_
    refine wq_iconst (pc := 8) dX1_cycles_8 gsti1 ?_
    obtain ⟨fs7, w8, V⟩ := V
    refine clq259 (pc := 9) (As := [.int (1 : Int32)]) (st := []) rfl dX1_cycles_9 rfl (Nat.le_of_ble_eq_true rfl) w8 V (fun C4 S5 => wx_ki (fun y6 h3 V => ?_))
    refine wq_iret (pc := 12) dX1_cycles_12 rfl ⟨_, rfl, V⟩
theorem vX1_cycles_17 {G : wq_G} {l : Launch} {d C S : Nat} {K : Int32 → wq_H → Prop} {x0 : Nat} {x1 : Int32} {x2 : Int32} {h : wq_H} (V : wq_gR h x0 [(0, 6)] (fun a1 => ∃ fs6 : List Value, h a1 = some (.inr (6, fs6)) ∧ (wq_ci G l d C S mX7_size [.ref a1] h (fun y5 h2 C3 S4 => (((1 : Int32) <<< (y5 &&& 31)) ≤ x2 → ∃ fs12 : List Value, h2 x0 = some (.inr (0, fs12)) ∧ (wq_ci G l d C3 S4 mX1_well [.ref x0, .int x1] h2 (fun y11 h8 C9 S10 => K y11 h8))) ∧ (¬ ((1 : Int32) <<< (y5 &&& 31)) ≤ x2 → wq_gR h2 x0 [(0, 6)] (fun a14 => ∃ fs19 : List Value, h2 a14 = some (.inr (6, fs19)) ∧ (wq_ci G l d C3 S4 mX7_isCycle [.ref a14, .int x2] h2 (fun y18 h15 C16 S17 => (y18 = 0 → wq_T G l d mX1_cycles (wq_qi K) 17 [some (.ref x0), some (.int (x1 + (0 : Int32))), some (.int (x2 + (1 : Int32)))] [] h15 C16 S17) ∧ (¬ y18 = 0 → wq_T G l d mX1_cycles (wq_qi K) 17 [some (.ref x0), some (.int (x1 + (1 : Int32))), some (.int (x2 + (1 : Int32)))] [] h15 C16 S17))))))))) : wq_T G l d mX1_cycles (wq_qi K) 17 [some (.ref x0), some (.int x1), some (.int x2)] [] h C S := by
  refine wq_iload_n (pc := 17) dX1_cycles_17 rfl rfl ?_
  refine wq_iconst (pc := 18) dX1_cycles_18 gsti1 ?_
  refine wq_aload_n (pc := 19) dX1_cycles_19 rfl rfl ?_
  refine gfq220 (pc := 20) rfl dX1_cycles_20 V (fun a1 V => ?_)
  obtain ⟨fs6, w7, V⟩ := V
  refine clq1115 (pc := 23) (As := []) (st := [.int (1 : Int32), .int x2]) rfl dX1_cycles_23 rfl (Nat.le_of_ble_eq_true rfl) w7 V (fun C3 S4 => wx_ki (fun y5 h2 V => ?_))
  refine wq_ishl (pc := 26) dX1_cycles_26 ?_
  refine wq_icmp_ge (pc := 27) (tgt := 55) dX1_cycles_27 rfl (fun c => ?_) (fun c => ?_)
  · have V := V.1 c
    refine wq_aload_n (pc := 55) dX1_cycles_55 rfl rfl ?_
    refine wq_iload_n (pc := 56) dX1_cycles_56 rfl rfl ?_
    obtain ⟨fs12, w13, V⟩ := V
    refine clq977 (pc := 57) (As := [.int x1]) (st := []) rfl dX1_cycles_57 rfl (Nat.le_of_ble_eq_true rfl) w13 V (fun C9 S10 => wx_ki (fun y11 h8 V => ?_))
    refine wq_iret (pc := 60) dX1_cycles_60 rfl ⟨_, rfl, V⟩
  · have V := V.2 c
    refine wq_iload_n (pc := 30) dX1_cycles_30 rfl rfl ?_
    refine wq_aload_n (pc := 31) dX1_cycles_31 rfl rfl ?_
    refine gfq220 (pc := 32) rfl dX1_cycles_32 V (fun a14 V => ?_)
    refine wq_iload_n (pc := 35) dX1_cycles_35 rfl rfl ?_
    obtain ⟨fs19, w20, V⟩ := V
    refine clq1189 (pc := 36) (As := [.int x2]) (st := [.int x1]) rfl dX1_cycles_36 rfl (Nat.le_of_ble_eq_true rfl) w20 V (fun C16 S17 => wx_ki (fun y18 h15 V => ?_))
    refine wq_if_eq (pc := 39) (tgt := 46) dX1_cycles_39 rfl (fun c => ?_) (fun c => ?_)
    · have V := V.1 c
      refine wq_iconst (pc := 46) dX1_cycles_46 gsti0 ?_
      refine wq_iadd (pc := 47) dX1_cycles_47 ?_
      refine wq_istore_n (L' := [some (.ref x0), some (.int (x1 + (0 : Int32))), some (.int x2)]) (pc := 48) dX1_cycles_48 rfl (Nat.le_of_ble_eq_true rfl) rfl ?_
      refine wq_iinc (L' := [some (.ref x0), some (.int (x1 + (0 : Int32))), some (.int (x2 + (1 : Int32)))]) (pc := 49) dX1_cycles_49 rfl (by rw [gsti1]) (Nat.le_of_ble_eq_true rfl) rfl ?_
      refine wq_goto (pc := 52) (tgt := 17) dX1_cycles_52 rfl ?_
      exact wq_T.less V ⟨rfl, ⟨rfl, ⟨rfl, trivial⟩⟩⟩
    · have V := V.2 c
      refine wq_iconst (pc := 42) dX1_cycles_42 gsti1 ?_
      refine wq_goto (pc := 43) (tgt := 47) dX1_cycles_43 rfl ?_
      refine wq_iadd (pc := 47) dX1_cycles_47 ?_
      refine wq_istore_n (L' := [some (.ref x0), some (.int (x1 + (1 : Int32))), some (.int x2)]) (pc := 48) dX1_cycles_48 rfl (Nat.le_of_ble_eq_true rfl) rfl ?_
      refine wq_iinc (L' := [some (.ref x0), some (.int (x1 + (1 : Int32))), some (.int (x2 + (1 : Int32)))]) (pc := 49) dX1_cycles_49 rfl (by rw [gsti1]) (Nat.le_of_ble_eq_true rfl) rfl ?_
      refine wq_goto (pc := 52) (tgt := 17) dX1_cycles_52 rfl ?_
      exact wq_T.less V ⟨rfl, ⟨rfl, ⟨rfl, trivial⟩⟩⟩
theorem vX1_bits_0 {G : wq_G} {l : Launch} {d C S : Nat} {K : Int32 → wq_H → Prop} {x0 : Int32} {h : wq_H} (V : wq_T G l d mX1_bits (wq_qi K) 4 [none, some (.int (0 : Int32)), some (.int x0)] [] h C S) : wq_T G l d mX1_bits (wq_qi K) 0 [some (.int x0), none, none] [] h C S := by
  refine wq_iconst (pc := 0) dX1_bits_0 gsti0 ?_
  refine wq_istore_n (L' := [some (.int x0), some (.int (0 : Int32)), none]) (pc := 1) dX1_bits_1 rfl (Nat.le_of_ble_eq_true rfl) rfl ?_
  refine wq_iload_n (pc := 2) dX1_bits_2 rfl rfl ?_
  refine wq_istore_n (L' := [some (.int x0), some (.int (0 : Int32)), some (.int x0)]) (pc := 3) dX1_bits_3 rfl (Nat.le_of_ble_eq_true rfl) rfl ?_
  exact wq_T.less V ⟨rfl, ⟨rfl, trivial⟩⟩
theorem vX1_bits_4 {G : wq_G} {l : Launch} {d C S : Nat} {K : Int32 → wq_H → Prop} {x1 : Int32} {x2 : Int32} {h : wq_H} (V : (x2 = 0 → K x1 h) ∧ (¬ x2 = 0 → wq_T G l d mX1_bits (wq_qi K) 4 [none, some (.int (x1 + (1 : Int32))), some (.int (x2 &&& (x2 - (1 : Int32))))] [] h C S)) : wq_T G l d mX1_bits (wq_qi K) 4 [none, some (.int x1), some (.int x2)] [] h C S := by
  refine wq_iload_n (pc := 4) dX1_bits_4 rfl rfl ?_
  refine wq_if_eq (pc := 5) (tgt := 20) dX1_bits_5 rfl (fun c => ?_) (fun c => ?_)
  · have V := V.1 c
    refine wq_iload_n (pc := 20) dX1_bits_20 rfl rfl ?_
    refine wq_iret (pc := 21) dX1_bits_21 rfl ⟨_, rfl, V⟩
  · have V := V.2 c
    refine wq_iinc (L' := [none, some (.int (x1 + (1 : Int32))), some (.int x2)]) (pc := 8) dX1_bits_8 rfl (by rw [gsti1]) (Nat.le_of_ble_eq_true rfl) rfl ?_
    refine wq_iload_n (pc := 11) dX1_bits_11 rfl rfl ?_
    refine wq_iload_n (pc := 12) dX1_bits_12 rfl rfl ?_
    refine wq_iconst (pc := 13) dX1_bits_13 gsti1 ?_
    refine wq_isub (pc := 14) dX1_bits_14 ?_
    refine wq_iand (pc := 15) dX1_bits_15 ?_
    refine wq_istore_n (L' := [none, some (.int (x1 + (1 : Int32))), some (.int (x2 &&& (x2 - (1 : Int32))))]) (pc := 16) dX1_bits_16 rfl (Nat.le_of_ble_eq_true rfl) rfl ?_
    refine wq_goto (pc := 17) (tgt := 4) dX1_bits_17 rfl ?_
    exact wq_T.less V ⟨rfl, ⟨rfl, trivial⟩⟩
theorem vX1_cycle_0 {G : wq_G} {l : Launch} {d C S : Nat} {K : Int32 → wq_H → Prop} {x0 : Nat} {x1 : Int32} {h : wq_H} (V : wq_T G l d mX1_cycle (wq_qi K) 4 [some (.ref x0), some (.int x1), some (.int (0 : Int32)), some (.int (0 : Int32))] [] h C S) : wq_T G l d mX1_cycle (wq_qi K) 0 [some (.ref x0), some (.int x1), none, none] [] h C S := by
  refine wq_iconst (pc := 0) dX1_cycle_0 gsti0 ?_
  refine wq_istore_n (L' := [some (.ref x0), some (.int x1), some (.int (0 : Int32)), none]) (pc := 1) dX1_cycle_1 rfl (Nat.le_of_ble_eq_true rfl) rfl ?_
  refine wq_iconst (pc := 2) dX1_cycle_2 gsti0 ?_
  refine wq_istore_n (L' := [some (.ref x0), some (.int x1), some (.int (0 : Int32)), some (.int (0 : Int32))]) (pc := 3) dX1_cycle_3 rfl (Nat.le_of_ble_eq_true rfl) rfl ?_
  exact wq_T.less V ⟨rfl, ⟨rfl, ⟨rfl, ⟨rfl, trivial⟩⟩⟩⟩
theorem vX1_cycle_4 {G : wq_G} {l : Launch} {d C S : Nat} {K : Int32 → wq_H → Prop} {x0 : Nat} {x1 : Int32} {x2 : Int32} {x3 : Int32} {h : wq_H} (V : wq_gQ h x0 [(0, 5)] (fun r1 => (r1 = none → ∃ fs7 : List Value, h x0 = some (.inr (0, fs7)) ∧ (wq_ci G l d C S mX1_refused [.ref x0, .int (1 : Int32)] h (fun y6 h3 C4 S5 => K y6 h3))) ∧ (∀ a2, r1 = some a2 → wq_gR h x0 [(0, 6)] (fun a9 => ∃ fs14 : List Value, h a9 = some (.inr (6, fs14)) ∧ (wq_ci G l d C S mX7_size [.ref a9] h (fun y13 h10 C11 S12 => (((1 : Int32) <<< (y13 &&& 31)) ≤ x3 → ∃ fs20 : List Value, h10 x0 = some (.inr (0, fs20)) ∧ (wq_ci G l d C11 S12 mX1_refused [.ref x0, .int (1 : Int32)] h10 (fun y19 h16 C17 S18 => K y19 h16))) ∧ (¬ ((1 : Int32) <<< (y13 &&& 31)) ≤ x3 → wq_gR h10 x0 [(0, 6)] (fun a22 => ∃ fs27 : List Value, h10 a22 = some (.inr (6, fs27)) ∧ (wq_ci G l d C11 S12 mX7_isCycle [.ref a22, .int x3] h10 (fun y26 h23 C24 S25 => (¬ y26 = 0 → (¬ x2 = x1 → wq_T G l d mX1_cycle (wq_qi K) 4 [some (.ref x0), some (.int x1), some (.int (x2 + (1 : Int32))), some (.int (x3 + (1 : Int32)))] [] h23 C24 S25) ∧ (x2 = x1 → ∃ fs33 : List Value, h23 x0 = some (.inr (0, fs33)) ∧ (wq_ci G l d C24 S25 mX1_well [.ref x0, .int x3] h23 (fun y32 h29 C30 S31 => K y32 h29)))) ∧ (y26 = 0 → wq_T G l d mX1_cycle (wq_qi K) 4 [some (.ref x0), some (.int x1), some (.int x2), some (.int (x3 + (1 : Int32)))] [] h23 C24 S25))))))))))) : wq_T G l d mX1_cycle (wq_qi K) 4 [some (.ref x0), some (.int x1), some (.int x2), some (.int x3)] [] h C S := by
  refine wq_aload_n (pc := 4) dX1_cycle_4 rfl rfl ?_
  refine gfq219 (pc := 5) rfl dX1_cycle_5 V (fun r1 V => ?_)
  refine wq_ifnull (pc := 8) (tgt := 58) dX1_cycle_8 rfl (fun c => ?_) (fun a2 c => ?_)
  · subst c
    have V := V.1 rfl
    refine wq_aload_n (pc := 58) dX1_cycle_58 rfl rfl ?_
    refine wq_iconst (pc := 59) dX1_cycle_59 gsti1 ?_
    obtain ⟨fs7, w8, V⟩ := V
    refine clq259 (pc := 60) (As := [.int (1 : Int32)]) (st := []) rfl dX1_cycle_60 rfl (Nat.le_of_ble_eq_true rfl) w8 V (fun C4 S5 => wx_ki (fun y6 h3 V => ?_))
    refine wq_iret (pc := 63) dX1_cycle_63 rfl ⟨_, rfl, V⟩
  · subst c
    have V := V.2 a2 rfl
    refine wq_iload_n (pc := 11) dX1_cycle_11 rfl rfl ?_
    refine wq_iconst (pc := 12) dX1_cycle_12 gsti1 ?_
    refine wq_aload_n (pc := 13) dX1_cycle_13 rfl rfl ?_
    refine gfq220 (pc := 14) rfl dX1_cycle_14 V (fun a9 V => ?_)
    obtain ⟨fs14, w15, V⟩ := V
    refine clq1115 (pc := 17) (As := []) (st := [.int (1 : Int32), .int x3]) rfl dX1_cycle_17 rfl (Nat.le_of_ble_eq_true rfl) w15 V (fun C11 S12 => wx_ki (fun y13 h10 V => ?_))
    refine wq_ishl (pc := 20) dX1_cycle_20 ?_
    refine wq_icmp_ge (pc := 21) (tgt := 58) dX1_cycle_21 rfl (fun c => ?_) (fun c => ?_)
    · have V := V.1 c
      refine wq_aload_n (pc := 58) dX1_cycle_58 rfl rfl ?_
      refine wq_iconst (pc := 59) dX1_cycle_59 gsti1 ?_
      obtain ⟨fs20, w21, V⟩ := V
      refine clq259 (pc := 60) (As := [.int (1 : Int32)]) (st := []) rfl dX1_cycle_60 rfl (Nat.le_of_ble_eq_true rfl) w21 V (fun C17 S18 => wx_ki (fun y19 h16 V => ?_))
      refine wq_iret (pc := 63) dX1_cycle_63 rfl ⟨_, rfl, V⟩
    · have V := V.2 c
      refine wq_aload_n (pc := 24) dX1_cycle_24 rfl rfl ?_
      refine gfq220 (pc := 25) rfl dX1_cycle_25 V (fun a22 V => ?_)
      refine wq_iload_n (pc := 28) dX1_cycle_28 rfl rfl ?_
      obtain ⟨fs27, w28, V⟩ := V
      refine clq1189 (pc := 29) (As := [.int x3]) (st := []) rfl dX1_cycle_29 rfl (Nat.le_of_ble_eq_true rfl) w28 V (fun C24 S25 => wx_ki (fun y26 h23 V => ?_))
      refine wq_if_ne (pc := 32) (tgt := 38) dX1_cycle_32 rfl (fun c => ?_) (fun c => ?_)
      · have V := V.1 c
        refine wq_iload_n (pc := 38) dX1_cycle_38 rfl rfl ?_
        refine wq_iload_n (pc := 39) dX1_cycle_39 rfl rfl ?_
        refine wq_icmp_ne (pc := 40) (tgt := 49) dX1_cycle_40 rfl (fun c => ?_) (fun c => ?_)
        · have V := V.1 c
          refine wq_iinc (L' := [some (.ref x0), some (.int x1), some (.int (x2 + (1 : Int32))), some (.int x3)]) (pc := 49) dX1_cycle_49 rfl (by rw [gsti1]) (Nat.le_of_ble_eq_true rfl) rfl ?_
          refine wq_iinc (L' := [some (.ref x0), some (.int x1), some (.int (x2 + (1 : Int32))), some (.int (x3 + (1 : Int32)))]) (pc := 52) dX1_cycle_52 rfl (by rw [gsti1]) (Nat.le_of_ble_eq_true rfl) rfl ?_
          refine wq_goto (pc := 55) (tgt := 4) dX1_cycle_55 rfl ?_
          exact wq_T.less V ⟨rfl, ⟨rfl, ⟨rfl, ⟨rfl, trivial⟩⟩⟩⟩
        · have V := V.2 c
          refine wq_aload_n (pc := 43) dX1_cycle_43 rfl rfl ?_
          refine wq_iload_n (pc := 44) dX1_cycle_44 rfl rfl ?_
          obtain ⟨fs33, w34, V⟩ := V
          refine clq977 (pc := 45) (As := [.int x3]) (st := []) rfl dX1_cycle_45 rfl (Nat.le_of_ble_eq_true rfl) w34 V (fun C30 S31 => wx_ki (fun y32 h29 V => ?_))
          refine wq_iret (pc := 48) dX1_cycle_48 rfl ⟨_, rfl, V⟩
      · have V := V.2 c
        refine wq_goto (pc := 35) (tgt := 52) dX1_cycle_35 rfl ?_
        refine wq_iinc (L' := [some (.ref x0), some (.int x1), some (.int x2), some (.int (x3 + (1 : Int32)))]) (pc := 52) dX1_cycle_52 rfl (by rw [gsti1]) (Nat.le_of_ble_eq_true rfl) rfl ?_
        refine wq_goto (pc := 55) (tgt := 4) dX1_cycle_55 rfl ?_
        exact wq_T.less V ⟨rfl, ⟨rfl, ⟨rfl, ⟨rfl, trivial⟩⟩⟩⟩
theorem vX1_excess_0 {G : wq_G} {l : Launch} {d C S : Nat} {K : Int32 → wq_H → Prop} {x0 : Nat} {x1 : Int32} {h : wq_H} (V : wq_gQ h x0 [(0, 5)] (fun r1 => (r1 = none → ((0 : Int32) = 0 → wq_gQ h x0 [(0, 5)] (fun r3 => (r3 = none → ∃ fs9 : List Value, h x0 = some (.inr (0, fs9)) ∧ (wq_ci G l d C S mX1_refused [.ref x0, .int (1 : Int32)] h (fun y8 h5 C6 S7 => K (-1000 : Int32) h5))) ∧ (∀ a4, r3 = some a4 → ∃ fs15 : List Value, h x0 = some (.inr (0, fs15)) ∧ (wq_ci G l d C S mX1_refused [.ref x0, .int (5 : Int32)] h (fun y14 h11 C12 S13 => K (-1000 : Int32) h11))))) ∧ (¬ (0 : Int32) = 0 → wq_gR h x0 [(0, 6)] (fun a17 => wq_gQ h x0 [(0, 5)] (fun r18 => ∃ a19, r18 = some a19 ∧ (wq_gI h a19 [(5, 0)] (fun y21 => ∃ fs26 : List Value, h a17 = some (.inr (6, fs26)) ∧ (wq_ci G l d C S mX7_excess [.ref a17, .int x1, .int y21] h (fun y25 h22 C23 S24 => ∃ fs32 : List Value, h22 x0 = some (.inr (0, fs32)) ∧ (wq_ci G l d C23 S24 mX1_well [.ref x0, .int y25] h22 (fun y31 h28 C29 S30 => K y31 h28)))))))))) ∧ (∀ a2, r1 = some a2 → (x1 < 0 → ((0 : Int32) = 0 → wq_gQ h x0 [(0, 5)] (fun r34 => (r34 = none → ∃ fs40 : List Value, h x0 = some (.inr (0, fs40)) ∧ (wq_ci G l d C S mX1_refused [.ref x0, .int (1 : Int32)] h (fun y39 h36 C37 S38 => K (-1000 : Int32) h36))) ∧ (∀ a35, r34 = some a35 → ∃ fs46 : List Value, h x0 = some (.inr (0, fs46)) ∧ (wq_ci G l d C S mX1_refused [.ref x0, .int (5 : Int32)] h (fun y45 h42 C43 S44 => K (-1000 : Int32) h42))))) ∧ (¬ (0 : Int32) = 0 → wq_gR h x0 [(0, 6)] (fun a48 => wq_gQ h x0 [(0, 5)] (fun r49 => ∃ a50, r49 = some a50 ∧ (wq_gI h a50 [(5, 0)] (fun y52 => ∃ fs57 : List Value, h a48 = some (.inr (6, fs57)) ∧ (wq_ci G l d C S mX7_excess [.ref a48, .int x1, .int y52] h (fun y56 h53 C54 S55 => ∃ fs63 : List Value, h53 x0 = some (.inr (0, fs63)) ∧ (wq_ci G l d C54 S55 mX1_well [.ref x0, .int y56] h53 (fun y62 h59 C60 S61 => K y62 h59)))))))))) ∧ (¬ x1 < 0 → wq_gR h x0 [(0, 6)] (fun a65 => ∃ fs70 : List Value, h a65 = some (.inr (6, fs70)) ∧ (wq_ci G l d C S mX7_isCycle [.ref a65, .int x1] h (fun y69 h66 C67 S68 => (y69 = 0 → ((0 : Int32) = 0 → wq_gQ h66 x0 [(0, 5)] (fun r72 => (r72 = none → ∃ fs78 : List Value, h66 x0 = some (.inr (0, fs78)) ∧ (wq_ci G l d C67 S68 mX1_refused [.ref x0, .int (1 : Int32)] h66 (fun y77 h74 C75 S76 => K (-1000 : Int32) h74))) ∧ (∀ a73, r72 = some a73 → ∃ fs84 : List Value, h66 x0 = some (.inr (0, fs84)) ∧ (wq_ci G l d C67 S68 mX1_refused [.ref x0, .int (5 : Int32)] h66 (fun y83 h80 C81 S82 => K (-1000 : Int32) h80))))) ∧ (¬ (0 : Int32) = 0 → wq_gR h66 x0 [(0, 6)] (fun a86 => wq_gQ h66 x0 [(0, 5)] (fun r87 => ∃ a88, r87 = some a88 ∧ (wq_gI h66 a88 [(5, 0)] (fun y90 => ∃ fs95 : List Value, h66 a86 = some (.inr (6, fs95)) ∧ (wq_ci G l d C67 S68 mX7_excess [.ref a86, .int x1, .int y90] h66 (fun y94 h91 C92 S93 => ∃ fs101 : List Value, h91 x0 = some (.inr (0, fs101)) ∧ (wq_ci G l d C92 S93 mX1_well [.ref x0, .int y94] h91 (fun y100 h97 C98 S99 => K y100 h97)))))))))) ∧ (¬ y69 = 0 → ((1 : Int32) = 0 → wq_gQ h66 x0 [(0, 5)] (fun r103 => (r103 = none → ∃ fs109 : List Value, h66 x0 = some (.inr (0, fs109)) ∧ (wq_ci G l d C67 S68 mX1_refused [.ref x0, .int (1 : Int32)] h66 (fun y108 h105 C106 S107 => K (-1000 : Int32) h105))) ∧ (∀ a104, r103 = some a104 → ∃ fs115 : List Value, h66 x0 = some (.inr (0, fs115)) ∧ (wq_ci G l d C67 S68 mX1_refused [.ref x0, .int (5 : Int32)] h66 (fun y114 h111 C112 S113 => K (-1000 : Int32) h111))))) ∧ (¬ (1 : Int32) = 0 → wq_gR h66 x0 [(0, 6)] (fun a117 => wq_gQ h66 x0 [(0, 5)] (fun r118 => ∃ a119, r118 = some a119 ∧ (wq_gI h66 a119 [(5, 0)] (fun y121 => ∃ fs126 : List Value, h66 a117 = some (.inr (6, fs126)) ∧ (wq_ci G l d C67 S68 mX7_excess [.ref a117, .int x1, .int y121] h66 (fun y125 h122 C123 S124 => ∃ fs132 : List Value, h122 x0 = some (.inr (0, fs132)) ∧ (wq_ci G l d C123 S124 mX1_well [.ref x0, .int y125] h122 (fun y131 h128 C129 S130 => K y131 h128))))))))))))))))) : wq_T G l d mX1_excess (wq_qi K) 0 [some (.ref x0), some (.int x1), none] [] h C S := by
  refine wq_aload_n (pc := 0) dX1_excess_0 rfl rfl ?_
  refine gfq219 (pc := 1) rfl dX1_excess_1 V (fun r1 V => ?_)
  refine wq_ifnull (pc := 4) (tgt := 26) dX1_excess_4 rfl (fun c => ?_) (fun a2 c => ?_)
  · subst c
    have V := V.1 rfl
    refine wq_iconst (pc := 26) dX1_excess_26 gsti0 ?_
    refine wq_istore_n (L' := [some (.ref x0), some (.int x1), some (.int (0 : Int32))]) (pc := 27) dX1_excess_27 rfl (Nat.le_of_ble_eq_true rfl) rfl ?_
    refine wq_iload_n (pc := 28) dX1_excess_28 rfl rfl ?_
    refine wq_if_eq (pc := 29) (tgt := 52) dX1_excess_29 rfl (fun c => ?_) (fun c => ?_)
    · have V := V.1 c
      refine wq_aload_n (pc := 52) dX1_excess_52 rfl rfl ?_
      refine wq_aload_n (pc := 53) dX1_excess_53 rfl rfl ?_
      refine gfq219 (pc := 54) rfl dX1_excess_54 V (fun r3 V => ?_)
      refine wq_ifnonnull (pc := 57) (tgt := 64) dX1_excess_57 rfl (fun a4 c => ?_) (fun c => ?_)
      · subst c
        have V := V.2 a4 rfl
        refine wq_iconst (pc := 64) dX1_excess_64 gsti5 ?_
        obtain ⟨fs15, w16, V⟩ := V
        refine clq259 (pc := 65) (As := [.int (5 : Int32)]) (st := []) rfl dX1_excess_65 rfl (Nat.le_of_ble_eq_true rfl) w16 V (fun C12 S13 => wx_ki (fun y14 h11 V => ?_))
        refine wq_pop (pc := 68) dX1_excess_68 rfl ?_
        refine wq_sipush (pc := 69) dX1_excess_69 gstsm1000 ?_
        refine wq_iret (pc := 72) dX1_excess_72 rfl ⟨_, rfl, V⟩
      · subst c
        have V := V.1 rfl
        refine wq_iconst (pc := 60) dX1_excess_60 gsti1 ?_
        refine wq_goto (pc := 61) (tgt := 65) dX1_excess_61 rfl ?_
        obtain ⟨fs9, w10, V⟩ := V
        refine clq259 (pc := 65) (As := [.int (1 : Int32)]) (st := []) rfl dX1_excess_65 rfl (Nat.le_of_ble_eq_true rfl) w10 V (fun C6 S7 => wx_ki (fun y8 h5 V => ?_))
        refine wq_pop (pc := 68) dX1_excess_68 rfl ?_
        refine wq_sipush (pc := 69) dX1_excess_69 gstsm1000 ?_
        refine wq_iret (pc := 72) dX1_excess_72 rfl ⟨_, rfl, V⟩
    · have V := V.2 c
      refine wq_aload_n (pc := 32) dX1_excess_32 rfl rfl ?_
      refine wq_aload_n (pc := 33) dX1_excess_33 rfl rfl ?_
      refine gfq220 (pc := 34) rfl dX1_excess_34 V (fun a17 V => ?_)
      refine wq_iload_n (pc := 37) dX1_excess_37 rfl rfl ?_
      refine wq_aload_n (pc := 38) dX1_excess_38 rfl rfl ?_
      refine gfq219 (pc := 39) rfl dX1_excess_39 V (fun r18 V => ?_)
      obtain ⟨a19, w20, V⟩ := V
      rw [w20]
      refine gfq308 (pc := 42) rfl dX1_excess_42 V (fun y21 V => ?_)
      obtain ⟨fs26, w27, V⟩ := V
      refine clq1217 (pc := 45) (As := [.int x1, .int y21]) (st := [.ref x0]) rfl dX1_excess_45 rfl (Nat.le_of_ble_eq_true rfl) w27 V (fun C23 S24 => wx_ki (fun y25 h22 V => ?_))
      obtain ⟨fs32, w33, V⟩ := V
      refine clq977 (pc := 48) (As := [.int y25]) (st := []) rfl dX1_excess_48 rfl (Nat.le_of_ble_eq_true rfl) w33 V (fun C29 S30 => wx_ki (fun y31 h28 V => ?_))
      refine wq_iret (pc := 51) dX1_excess_51 rfl ⟨_, rfl, V⟩
  · subst c
    have V := V.2 a2 rfl
    refine wq_iload_n (pc := 7) dX1_excess_7 rfl rfl ?_
    refine wq_if_lt (pc := 8) (tgt := 26) dX1_excess_8 rfl (fun c => ?_) (fun c => ?_)
    · have V := V.1 c
      refine wq_iconst (pc := 26) dX1_excess_26 gsti0 ?_
      refine wq_istore_n (L' := [some (.ref x0), some (.int x1), some (.int (0 : Int32))]) (pc := 27) dX1_excess_27 rfl (Nat.le_of_ble_eq_true rfl) rfl ?_
      refine wq_iload_n (pc := 28) dX1_excess_28 rfl rfl ?_
      refine wq_if_eq (pc := 29) (tgt := 52) dX1_excess_29 rfl (fun c => ?_) (fun c => ?_)
      · have V := V.1 c
        refine wq_aload_n (pc := 52) dX1_excess_52 rfl rfl ?_
        refine wq_aload_n (pc := 53) dX1_excess_53 rfl rfl ?_
        refine gfq219 (pc := 54) rfl dX1_excess_54 V (fun r34 V => ?_)
        refine wq_ifnonnull (pc := 57) (tgt := 64) dX1_excess_57 rfl (fun a35 c => ?_) (fun c => ?_)
        · subst c
          have V := V.2 a35 rfl
          refine wq_iconst (pc := 64) dX1_excess_64 gsti5 ?_
          obtain ⟨fs46, w47, V⟩ := V
          refine clq259 (pc := 65) (As := [.int (5 : Int32)]) (st := []) rfl dX1_excess_65 rfl (Nat.le_of_ble_eq_true rfl) w47 V (fun C43 S44 => wx_ki (fun y45 h42 V => ?_))
          refine wq_pop (pc := 68) dX1_excess_68 rfl ?_
          refine wq_sipush (pc := 69) dX1_excess_69 gstsm1000 ?_
          refine wq_iret (pc := 72) dX1_excess_72 rfl ⟨_, rfl, V⟩
        · subst c
          have V := V.1 rfl
          refine wq_iconst (pc := 60) dX1_excess_60 gsti1 ?_
          refine wq_goto (pc := 61) (tgt := 65) dX1_excess_61 rfl ?_
          obtain ⟨fs40, w41, V⟩ := V
          refine clq259 (pc := 65) (As := [.int (1 : Int32)]) (st := []) rfl dX1_excess_65 rfl (Nat.le_of_ble_eq_true rfl) w41 V (fun C37 S38 => wx_ki (fun y39 h36 V => ?_))
          refine wq_pop (pc := 68) dX1_excess_68 rfl ?_
          refine wq_sipush (pc := 69) dX1_excess_69 gstsm1000 ?_
          refine wq_iret (pc := 72) dX1_excess_72 rfl ⟨_, rfl, V⟩
      · have V := V.2 c
        refine wq_aload_n (pc := 32) dX1_excess_32 rfl rfl ?_
        refine wq_aload_n (pc := 33) dX1_excess_33 rfl rfl ?_
        refine gfq220 (pc := 34) rfl dX1_excess_34 V (fun a48 V => ?_)
        refine wq_iload_n (pc := 37) dX1_excess_37 rfl rfl ?_
        refine wq_aload_n (pc := 38) dX1_excess_38 rfl rfl ?_
        refine gfq219 (pc := 39) rfl dX1_excess_39 V (fun r49 V => ?_)
        obtain ⟨a50, w51, V⟩ := V
        rw [w51]
        refine gfq308 (pc := 42) rfl dX1_excess_42 V (fun y52 V => ?_)
        obtain ⟨fs57, w58, V⟩ := V
        refine clq1217 (pc := 45) (As := [.int x1, .int y52]) (st := [.ref x0]) rfl dX1_excess_45 rfl (Nat.le_of_ble_eq_true rfl) w58 V (fun C54 S55 => wx_ki (fun y56 h53 V => ?_))
        obtain ⟨fs63, w64, V⟩ := V
        refine clq977 (pc := 48) (As := [.int y56]) (st := []) rfl dX1_excess_48 rfl (Nat.le_of_ble_eq_true rfl) w64 V (fun C60 S61 => wx_ki (fun y62 h59 V => ?_))
        refine wq_iret (pc := 51) dX1_excess_51 rfl ⟨_, rfl, V⟩
    · have V := V.2 c
      refine wq_aload_n (pc := 11) dX1_excess_11 rfl rfl ?_
      refine gfq220 (pc := 12) rfl dX1_excess_12 V (fun a65 V => ?_)
      refine wq_iload_n (pc := 15) dX1_excess_15 rfl rfl ?_
      obtain ⟨fs70, w71, V⟩ := V
      refine clq1189 (pc := 16) (As := [.int x1]) (st := []) rfl dX1_excess_16 rfl (Nat.le_of_ble_eq_true rfl) w71 V (fun C67 S68 => wx_ki (fun y69 h66 V => ?_))
      refine wq_if_eq (pc := 19) (tgt := 26) dX1_excess_19 rfl (fun c => ?_) (fun c => ?_)
      · have V := V.1 c
        refine wq_iconst (pc := 26) dX1_excess_26 gsti0 ?_
        refine wq_istore_n (L' := [some (.ref x0), some (.int x1), some (.int (0 : Int32))]) (pc := 27) dX1_excess_27 rfl (Nat.le_of_ble_eq_true rfl) rfl ?_
        refine wq_iload_n (pc := 28) dX1_excess_28 rfl rfl ?_
        refine wq_if_eq (pc := 29) (tgt := 52) dX1_excess_29 rfl (fun c => ?_) (fun c => ?_)
        · have V := V.1 c
          refine wq_aload_n (pc := 52) dX1_excess_52 rfl rfl ?_
          refine wq_aload_n (pc := 53) dX1_excess_53 rfl rfl ?_
          refine gfq219 (pc := 54) rfl dX1_excess_54 V (fun r72 V => ?_)
          refine wq_ifnonnull (pc := 57) (tgt := 64) dX1_excess_57 rfl (fun a73 c => ?_) (fun c => ?_)
          · subst c
            have V := V.2 a73 rfl
            refine wq_iconst (pc := 64) dX1_excess_64 gsti5 ?_
            obtain ⟨fs84, w85, V⟩ := V
            refine clq259 (pc := 65) (As := [.int (5 : Int32)]) (st := []) rfl dX1_excess_65 rfl (Nat.le_of_ble_eq_true rfl) w85 V (fun C81 S82 => wx_ki (fun y83 h80 V => ?_))
            refine wq_pop (pc := 68) dX1_excess_68 rfl ?_
            refine wq_sipush (pc := 69) dX1_excess_69 gstsm1000 ?_
            refine wq_iret (pc := 72) dX1_excess_72 rfl ⟨_, rfl, V⟩
          · subst c
            have V := V.1 rfl
            refine wq_iconst (pc := 60) dX1_excess_60 gsti1 ?_
            refine wq_goto (pc := 61) (tgt := 65) dX1_excess_61 rfl ?_
            obtain ⟨fs78, w79, V⟩ := V
            refine clq259 (pc := 65) (As := [.int (1 : Int32)]) (st := []) rfl dX1_excess_65 rfl (Nat.le_of_ble_eq_true rfl) w79 V (fun C75 S76 => wx_ki (fun y77 h74 V => ?_))
            refine wq_pop (pc := 68) dX1_excess_68 rfl ?_
            refine wq_sipush (pc := 69) dX1_excess_69 gstsm1000 ?_
            refine wq_iret (pc := 72) dX1_excess_72 rfl ⟨_, rfl, V⟩
        · have V := V.2 c
          refine wq_aload_n (pc := 32) dX1_excess_32 rfl rfl ?_
          refine wq_aload_n (pc := 33) dX1_excess_33 rfl rfl ?_
          refine gfq220 (pc := 34) rfl dX1_excess_34 V (fun a86 V => ?_)
          refine wq_iload_n (pc := 37) dX1_excess_37 rfl rfl ?_
          refine wq_aload_n (pc := 38) dX1_excess_38 rfl rfl ?_
          refine gfq219 (pc := 39) rfl dX1_excess_39 V (fun r87 V => ?_)
          obtain ⟨a88, w89, V⟩ := V
          rw [w89]
          refine gfq308 (pc := 42) rfl dX1_excess_42 V (fun y90 V => ?_)
          obtain ⟨fs95, w96, V⟩ := V
          refine clq1217 (pc := 45) (As := [.int x1, .int y90]) (st := [.ref x0]) rfl dX1_excess_45 rfl (Nat.le_of_ble_eq_true rfl) w96 V (fun C92 S93 => wx_ki (fun y94 h91 V => ?_))
          obtain ⟨fs101, w102, V⟩ := V
          refine clq977 (pc := 48) (As := [.int y94]) (st := []) rfl dX1_excess_48 rfl (Nat.le_of_ble_eq_true rfl) w102 V (fun C98 S99 => wx_ki (fun y100 h97 V => ?_))
          refine wq_iret (pc := 51) dX1_excess_51 rfl ⟨_, rfl, V⟩
      · have V := V.2 c
        refine wq_iconst (pc := 22) dX1_excess_22 gsti1 ?_
        refine wq_goto (pc := 23) (tgt := 27) dX1_excess_23 rfl ?_
        refine wq_istore_n (L' := [some (.ref x0), some (.int x1), some (.int (1 : Int32))]) (pc := 27) dX1_excess_27 rfl (Nat.le_of_ble_eq_true rfl) rfl ?_
        refine wq_iload_n (pc := 28) dX1_excess_28 rfl rfl ?_
        refine wq_if_eq (pc := 29) (tgt := 52) dX1_excess_29 rfl (fun c => ?_) (fun c => ?_)
        · have V := V.1 c
          refine wq_aload_n (pc := 52) dX1_excess_52 rfl rfl ?_
          refine wq_aload_n (pc := 53) dX1_excess_53 rfl rfl ?_
          refine gfq219 (pc := 54) rfl dX1_excess_54 V (fun r103 V => ?_)
          refine wq_ifnonnull (pc := 57) (tgt := 64) dX1_excess_57 rfl (fun a104 c => ?_) (fun c => ?_)
          · subst c
            have V := V.2 a104 rfl
            refine wq_iconst (pc := 64) dX1_excess_64 gsti5 ?_
            obtain ⟨fs115, w116, V⟩ := V
            refine clq259 (pc := 65) (As := [.int (5 : Int32)]) (st := []) rfl dX1_excess_65 rfl (Nat.le_of_ble_eq_true rfl) w116 V (fun C112 S113 => wx_ki (fun y114 h111 V => ?_))
            refine wq_pop (pc := 68) dX1_excess_68 rfl ?_
            refine wq_sipush (pc := 69) dX1_excess_69 gstsm1000 ?_
            refine wq_iret (pc := 72) dX1_excess_72 rfl ⟨_, rfl, V⟩
          · subst c
            have V := V.1 rfl
            refine wq_iconst (pc := 60) dX1_excess_60 gsti1 ?_
            refine wq_goto (pc := 61) (tgt := 65) dX1_excess_61 rfl ?_
            obtain ⟨fs109, w110, V⟩ := V
            refine clq259 (pc := 65) (As := [.int (1 : Int32)]) (st := []) rfl dX1_excess_65 rfl (Nat.le_of_ble_eq_true rfl) w110 V (fun C106 S107 => wx_ki (fun y108 h105 V => ?_))
            refine wq_pop (pc := 68) dX1_excess_68 rfl ?_
            refine wq_sipush (pc := 69) dX1_excess_69 gstsm1000 ?_
            refine wq_iret (pc := 72) dX1_excess_72 rfl ⟨_, rfl, V⟩
        · have V := V.2 c
          refine wq_aload_n (pc := 32) dX1_excess_32 rfl rfl ?_
          refine wq_aload_n (pc := 33) dX1_excess_33 rfl rfl ?_
          refine gfq220 (pc := 34) rfl dX1_excess_34 V (fun a117 V => ?_)
          refine wq_iload_n (pc := 37) dX1_excess_37 rfl rfl ?_
          refine wq_aload_n (pc := 38) dX1_excess_38 rfl rfl ?_
          refine gfq219 (pc := 39) rfl dX1_excess_39 V (fun r118 V => ?_)
          obtain ⟨a119, w120, V⟩ := V
          rw [w120]
          refine gfq308 (pc := 42) rfl dX1_excess_42 V (fun y121 V => ?_)
          obtain ⟨fs126, w127, V⟩ := V
          refine clq1217 (pc := 45) (As := [.int x1, .int y121]) (st := [.ref x0]) rfl dX1_excess_45 rfl (Nat.le_of_ble_eq_true rfl) w127 V (fun C123 S124 => wx_ki (fun y125 h122 V => ?_))
          obtain ⟨fs132, w133, V⟩ := V
          refine clq977 (pc := 48) (As := [.int y125]) (st := []) rfl dX1_excess_48 rfl (Nat.le_of_ble_eq_true rfl) w133 V (fun C129 S130 => wx_ki (fun y131 h128 V => ?_))
          refine wq_iret (pc := 51) dX1_excess_51 rfl ⟨_, rfl, V⟩
theorem vX1_widest_0 {G : wq_G} {l : Launch} {d C S : Nat} {K : Int32 → wq_H → Prop} {x0 : Nat} {h : wq_H} (V : wq_gQ h x0 [(0, 5)] (fun r1 => (r1 = none → ∃ fs7 : List Value, h x0 = some (.inr (0, fs7)) ∧ (wq_ci G l d C S mX1_refused [.ref x0, .int (1 : Int32)] h (fun y6 h3 C4 S5 => K y6 h3))) ∧ (∀ a2, r1 = some a2 → wq_T G l d mX1_widest (wq_qi K) 18 [some (.ref x0), some (.int (-2 : Int32)), some (.int (0 : Int32))] [] h C S))) : wq_T G l d mX1_widest (wq_qi K) 0 [some (.ref x0), none, none] [] h C S := by
  refine wq_aload_n (pc := 0) dX1_widest_0 rfl rfl ?_
  refine gfq219 (pc := 1) rfl dX1_widest_1 V (fun r1 V => ?_)
  refine wq_ifnonnull (pc := 4) (tgt := 13) dX1_widest_4 rfl (fun a2 c => ?_) (fun c => ?_)
  · subst c
    have V := V.2 a2 rfl
    refine wq_bipush (pc := 13) dX1_widest_13 gstbm2 ?_
    refine wq_istore_n (L' := [some (.ref x0), some (.int (-2 : Int32)), none]) (pc := 15) dX1_widest_15 rfl (Nat.le_of_ble_eq_true rfl) rfl ?_
    refine wq_iconst (pc := 16) dX1_widest_16 gsti0 ?_
    refine wq_istore_n (L' := [some (.ref x0), some (.int (-2 : Int32)), some (.int (0 : Int32))]) (pc := 17) dX1_widest_17 rfl (Nat.le_of_ble_eq_true rfl) rfl ?_
    exact wq_T.less V ⟨rfl, ⟨rfl, ⟨rfl, trivial⟩⟩⟩
  · subst c
    have V := V.1 rfl
    refine wq_aload_n (pc := 7) dX1_widest_7 rfl rfl ?_
    refine wq_iconst (pc := 8) dX1_widest_8 gsti1 ?_
    obtain ⟨fs7, w8, V⟩ := V
    refine clq259 (pc := 9) (As := [.int (1 : Int32)]) (st := []) rfl dX1_widest_9 rfl (Nat.le_of_ble_eq_true rfl) w8 V (fun C4 S5 => wx_ki (fun y6 h3 V => ?_))
    refine wq_iret (pc := 12) dX1_widest_12 rfl ⟨_, rfl, V⟩
theorem vX1_widest_18 {G : wq_G} {l : Launch} {d C S : Nat} {K : Int32 → wq_H → Prop} {x0 : Nat} {x1 : Int32} {x2 : Int32} {h : wq_H} (V : wq_gR h x0 [(0, 6)] (fun a1 => ∃ fs6 : List Value, h a1 = some (.inr (6, fs6)) ∧ (wq_ci G l d C S mX7_size [.ref a1] h (fun y5 h2 C3 S4 => (((1 : Int32) <<< (y5 &&& 31)) ≤ x2 → ∃ fs12 : List Value, h2 x0 = some (.inr (0, fs12)) ∧ (wq_ci G l d C3 S4 mX1_well [.ref x0, .int x1] h2 (fun y11 h8 C9 S10 => K y11 h8))) ∧ (¬ ((1 : Int32) <<< (y5 &&& 31)) ≤ x2 → wq_gR h2 x0 [(0, 6)] (fun a14 => ∃ fs19 : List Value, h2 a14 = some (.inr (6, fs19)) ∧ (wq_ci G l d C3 S4 mX7_isCycle [.ref a14, .int x2] h2 (fun y18 h15 C16 S17 => (y18 = 0 → wq_T G l d mX1_widest (wq_qi K) 18 [some (.ref x0), some (.int x1), some (.int (x2 + (1 : Int32)))] [] h15 C16 S17) ∧ (¬ y18 = 0 → (x1 = (-2 : Int32) → wq_T G l d mX1_widest (wq_qi K) 18 [some (.ref x0), some (.int x2), some (.int (x2 + (1 : Int32)))] [] h15 C16 S17) ∧ (¬ x1 = (-2 : Int32) → wq_gR h15 x0 [(0, 6)] (fun a21 => wq_gQ h15 x0 [(0, 5)] (fun r22 => ∃ a23, r22 = some a23 ∧ (wq_gI h15 a23 [(5, 0)] (fun y25 => ∃ fs30 : List Value, h15 a21 = some (.inr (6, fs30)) ∧ (wq_ci G l d C16 S17 mX7_excess [.ref a21, .int x2, .int y25] h15 (fun y29 h26 C27 S28 => wq_gR h26 x0 [(0, 6)] (fun a32 => wq_gQ h26 x0 [(0, 5)] (fun r33 => ∃ a34, r33 = some a34 ∧ (wq_gI h26 a34 [(5, 0)] (fun y36 => ∃ fs41 : List Value, h26 a32 = some (.inr (6, fs41)) ∧ (wq_ci G l d C27 S28 mX7_excess [.ref a32, .int x1, .int y36] h26 (fun y40 h37 C38 S39 => (y29 ≤ y40 → wq_T G l d mX1_widest (wq_qi K) 18 [some (.ref x0), some (.int x1), some (.int (x2 + (1 : Int32)))] [] h37 C38 S39) ∧ (¬ y29 ≤ y40 → wq_T G l d mX1_widest (wq_qi K) 18 [some (.ref x0), some (.int x2), some (.int (x2 + (1 : Int32)))] [] h37 C38 S39))))))))))))))))))))))) : wq_T G l d mX1_widest (wq_qi K) 18 [some (.ref x0), some (.int x1), some (.int x2)] [] h C S := by
  refine wq_iload_n (pc := 18) dX1_widest_18 rfl rfl ?_
  refine wq_iconst (pc := 19) dX1_widest_19 gsti1 ?_
  refine wq_aload_n (pc := 20) dX1_widest_20 rfl rfl ?_
  refine gfq220 (pc := 21) rfl dX1_widest_21 V (fun a1 V => ?_)
  obtain ⟨fs6, w7, V⟩ := V
  refine clq1115 (pc := 24) (As := []) (st := [.int (1 : Int32), .int x2]) rfl dX1_widest_24 rfl (Nat.le_of_ble_eq_true rfl) w7 V (fun C3 S4 => wx_ki (fun y5 h2 V => ?_))
  refine wq_ishl (pc := 27) dX1_widest_27 ?_
  refine wq_icmp_ge (pc := 28) (tgt := 89) dX1_widest_28 rfl (fun c => ?_) (fun c => ?_)
  · have V := V.1 c
    refine wq_aload_n (pc := 89) dX1_widest_89 rfl rfl ?_
    refine wq_iload_n (pc := 90) dX1_widest_90 rfl rfl ?_
    obtain ⟨fs12, w13, V⟩ := V
    refine clq977 (pc := 91) (As := [.int x1]) (st := []) rfl dX1_widest_91 rfl (Nat.le_of_ble_eq_true rfl) w13 V (fun C9 S10 => wx_ki (fun y11 h8 V => ?_))
    refine wq_iret (pc := 94) dX1_widest_94 rfl ⟨_, rfl, V⟩
  · have V := V.2 c
    refine wq_aload_n (pc := 31) dX1_widest_31 rfl rfl ?_
    refine gfq220 (pc := 32) rfl dX1_widest_32 V (fun a14 V => ?_)
    refine wq_iload_n (pc := 35) dX1_widest_35 rfl rfl ?_
    obtain ⟨fs19, w20, V⟩ := V
    refine clq1189 (pc := 36) (As := [.int x2]) (st := []) rfl dX1_widest_36 rfl (Nat.le_of_ble_eq_true rfl) w20 V (fun C16 S17 => wx_ki (fun y18 h15 V => ?_))
    refine wq_if_eq (pc := 39) (tgt := 83) dX1_widest_39 rfl (fun c => ?_) (fun c => ?_)
    · have V := V.1 c
      refine wq_iinc (L' := [some (.ref x0), some (.int x1), some (.int (x2 + (1 : Int32)))]) (pc := 83) dX1_widest_83 rfl (by rw [gsti1]) (Nat.le_of_ble_eq_true rfl) rfl ?_
      refine wq_goto (pc := 86) (tgt := 18) dX1_widest_86 rfl ?_
      exact wq_T.less V ⟨rfl, ⟨rfl, ⟨rfl, trivial⟩⟩⟩
    · have V := V.2 c
      refine wq_iload_n (pc := 42) dX1_widest_42 rfl rfl ?_
      refine wq_bipush (pc := 43) dX1_widest_43 gstbm2 ?_
      refine wq_icmp_eq (pc := 45) (tgt := 81) dX1_widest_45 rfl (fun c => ?_) (fun c => ?_)
      · have V := V.1 c
        refine wq_iload_n (pc := 81) dX1_widest_81 rfl rfl ?_
        refine wq_istore_n (L' := [some (.ref x0), some (.int x2), some (.int x2)]) (pc := 82) dX1_widest_82 rfl (Nat.le_of_ble_eq_true rfl) rfl ?_
        refine wq_iinc (L' := [some (.ref x0), some (.int x2), some (.int (x2 + (1 : Int32)))]) (pc := 83) dX1_widest_83 rfl (by rw [gsti1]) (Nat.le_of_ble_eq_true rfl) rfl ?_
        refine wq_goto (pc := 86) (tgt := 18) dX1_widest_86 rfl ?_
        exact wq_T.less V ⟨rfl, ⟨rfl, ⟨rfl, trivial⟩⟩⟩
      · have V := V.2 c
        refine wq_aload_n (pc := 48) dX1_widest_48 rfl rfl ?_
        refine gfq220 (pc := 49) rfl dX1_widest_49 V (fun a21 V => ?_)
        refine wq_iload_n (pc := 52) dX1_widest_52 rfl rfl ?_
        refine wq_aload_n (pc := 53) dX1_widest_53 rfl rfl ?_
        refine gfq219 (pc := 54) rfl dX1_widest_54 V (fun r22 V => ?_)
        obtain ⟨a23, w24, V⟩ := V
        rw [w24]
        refine gfq308 (pc := 57) rfl dX1_widest_57 V (fun y25 V => ?_)
        obtain ⟨fs30, w31, V⟩ := V
        refine clq1217 (pc := 60) (As := [.int x2, .int y25]) (st := []) rfl dX1_widest_60 rfl (Nat.le_of_ble_eq_true rfl) w31 V (fun C27 S28 => wx_ki (fun y29 h26 V => ?_))
        refine wq_aload_n (pc := 63) dX1_widest_63 rfl rfl ?_
        refine gfq220 (pc := 64) rfl dX1_widest_64 V (fun a32 V => ?_)
        refine wq_iload_n (pc := 67) dX1_widest_67 rfl rfl ?_
        refine wq_aload_n (pc := 68) dX1_widest_68 rfl rfl ?_
        refine gfq219 (pc := 69) rfl dX1_widest_69 V (fun r33 V => ?_)
        obtain ⟨a34, w35, V⟩ := V
        rw [w35]
        refine gfq308 (pc := 72) rfl dX1_widest_72 V (fun y36 V => ?_)
        obtain ⟨fs41, w42, V⟩ := V
        refine clq1217 (pc := 75) (As := [.int x1, .int y36]) (st := [.int y29]) rfl dX1_widest_75 rfl (Nat.le_of_ble_eq_true rfl) w42 V (fun C38 S39 => wx_ki (fun y40 h37 V => ?_))
        refine wq_icmp_le (pc := 78) (tgt := 83) dX1_widest_78 rfl (fun c => ?_) (fun c => ?_)
        · have V := V.1 c
          refine wq_iinc (L' := [some (.ref x0), some (.int x1), some (.int (x2 + (1 : Int32)))]) (pc := 83) dX1_widest_83 rfl (by rw [gsti1]) (Nat.le_of_ble_eq_true rfl) rfl ?_
          refine wq_goto (pc := 86) (tgt := 18) dX1_widest_86 rfl ?_
          exact wq_T.less V ⟨rfl, ⟨rfl, ⟨rfl, trivial⟩⟩⟩
        · have V := V.2 c
          refine wq_iload_n (pc := 81) dX1_widest_81 rfl rfl ?_
          refine wq_istore_n (L' := [some (.ref x0), some (.int x2), some (.int x2)]) (pc := 82) dX1_widest_82 rfl (Nat.le_of_ble_eq_true rfl) rfl ?_
          refine wq_iinc (L' := [some (.ref x0), some (.int x2), some (.int (x2 + (1 : Int32)))]) (pc := 83) dX1_widest_83 rfl (by rw [gsti1]) (Nat.le_of_ble_eq_true rfl) rfl ?_
          refine wq_goto (pc := 86) (tgt := 18) dX1_widest_86 rfl ?_
          exact wq_T.less V ⟨rfl, ⟨rfl, ⟨rfl, trivial⟩⟩⟩
theorem vX1_stake_0 {G : wq_G} {l : Launch} {d C S : Nat} {K : Int32 → wq_H → Prop} {x0 : Nat} {x1 : Int32} {x2 : Int32} {x3 : Int32} {h : wq_H} (V : ∃ fs5 : List Value, h x0 = some (.inr (0, fs5)) ∧ (wq_ci G l d C S mX1_isOutcome [.ref x0, .int x1, .int x2] h (fun y4 h1 C2 S3 => (¬ y4 = 0 → wq_ci G l d C2 S3 mX1_in [.int x3, .int (0 : Int32), .int (99 : Int32)] h1 (fun y10 h7 C8 S9 => (¬ y10 = 0 → wq_gR h7 x0 [(0, 6)] (fun a11 => ∃ fs16 : List Value, h7 a11 = some (.inr (6, fs16)) ∧ (wq_cq G l d C8 S9 mX7_set [.ref a11, .int x1] h7 (fun r15 h12 C13 S14 => ∃ a18, r15 = some a18 ∧ (wq_gR h12 a18 [(8, 1), (9, 1)] (fun a20 => wq_si G h12 a20 x2 x3 (fun h21 => ∃ fs26 : List Value, h21 x0 = some (.inr (0, fs26)) ∧ (wq_ci G l d C13 S14 mX1_granted [.ref x0] h21 (fun y25 h22 C23 S24 => narrow .boolean (.int y25) = .int y25 ∧ K y25 h22))))))))) ∧ (y10 = 0 → ∃ fs32 : List Value, h7 x0 = some (.inr (0, fs32)) ∧ (wq_ci G l d C8 S9 mX1_denied [.ref x0, .int (2 : Int32)] h7 (fun y31 h28 C29 S30 => narrow .boolean (.int y31) = .int y31 ∧ K y31 h28))))) ∧ (y4 = 0 → ∃ fs38 : List Value, h1 x0 = some (.inr (0, fs38)) ∧ (wq_ci G l d C2 S3 mX1_denied [.ref x0, .int (1 : Int32)] h1 (fun y37 h34 C35 S36 => narrow .boolean (.int y37) = .int y37 ∧ K y37 h34)))))) : wq_T G l d mX1_stake (wq_qi K) 0 [some (.ref x0), some (.int x1), some (.int x2), some (.int x3)] [] h C S := by
  refine wq_aload_n (pc := 0) dX1_stake_0 rfl rfl ?_
  refine wq_iload_n (pc := 1) dX1_stake_1 rfl rfl ?_
  refine wq_iload_n (pc := 2) dX1_stake_2 rfl rfl ?_
  obtain ⟨fs5, w6, V⟩ := V
  refine clq1072 (pc := 3) (As := [.int x1, .int x2]) (st := []) rfl dX1_stake_3 rfl (Nat.le_of_ble_eq_true rfl) w6 V (fun C2 S3 => wx_ki (fun y4 h1 V => ?_))
  refine wq_if_ne (pc := 6) (tgt := 15) dX1_stake_6 rfl (fun c => ?_) (fun c => ?_)
  · have V := V.1 c
    refine wq_iload_n (pc := 15) dX1_stake_15 rfl rfl ?_
    refine wq_iconst (pc := 16) dX1_stake_16 gsti0 ?_
    refine wq_bipush (pc := 17) dX1_stake_17 gstb99 ?_
    refine clq256 (pc := 19) (As := [.int x3, .int (0 : Int32), .int (99 : Int32)]) (st := []) rfl dX1_stake_19 rfl (Nat.le_of_ble_eq_true rfl) V (fun C8 S9 => wx_ki (fun y10 h7 V => ?_))
    refine wq_if_ne (pc := 22) (tgt := 31) dX1_stake_22 rfl (fun c => ?_) (fun c => ?_)
    · have V := V.1 c
      refine wq_aload_n (pc := 31) dX1_stake_31 rfl rfl ?_
      refine gfq220 (pc := 32) rfl dX1_stake_32 V (fun a11 V => ?_)
      refine wq_iload_n (pc := 35) dX1_stake_35 rfl rfl ?_
      obtain ⟨fs16, w17, V⟩ := V
      refine clq1116 (pc := 36) (As := [.int x1]) (st := []) rfl dX1_stake_36 rfl (Nat.le_of_ble_eq_true rfl) w17 V (fun C13 S14 => wx_kq (fun r15 h12 V => ?_))
      obtain ⟨a18, w19, V⟩ := V
      rw [w19]
      refine gfq843 (pc := 39) rfl dX1_stake_39 V (fun a20 V => ?_)
      refine wq_iload_n (pc := 42) dX1_stake_42 rfl rfl ?_
      refine wq_iload_n (pc := 43) dX1_stake_43 rfl rfl ?_
      refine wx_si (pc := 44) dX1_stake_44 V (fun h21 V => ?_)
      refine wq_aload_n (pc := 45) dX1_stake_45 rfl rfl ?_
      obtain ⟨fs26, w27, V⟩ := V
      refine clq1239 (pc := 46) (As := []) (st := []) rfl dX1_stake_46 rfl (Nat.le_of_ble_eq_true rfl) w27 V (fun C23 S24 => wx_ki (fun y25 h22 V => ?_))
      refine wq_zret (pc := 49) dX1_stake_49 rfl V.1 ⟨_, rfl, V.2⟩
    · have V := V.2 c
      refine wq_aload_n (pc := 25) dX1_stake_25 rfl rfl ?_
      refine wq_iconst (pc := 26) dX1_stake_26 gsti2 ?_
      obtain ⟨fs32, w33, V⟩ := V
      refine clq1235 (pc := 27) (As := [.int (2 : Int32)]) (st := []) rfl dX1_stake_27 rfl (Nat.le_of_ble_eq_true rfl) w33 V (fun C29 S30 => wx_ki (fun y31 h28 V => ?_))
      refine wq_zret (pc := 30) dX1_stake_30 rfl V.1 ⟨_, rfl, V.2⟩
  · have V := V.2 c
    refine wq_aload_n (pc := 9) dX1_stake_9 rfl rfl ?_
    refine wq_iconst (pc := 10) dX1_stake_10 gsti1 ?_
    obtain ⟨fs38, w39, V⟩ := V
    refine clq1235 (pc := 11) (As := [.int (1 : Int32)]) (st := []) rfl dX1_stake_11 rfl (Nat.le_of_ble_eq_true rfl) w39 V (fun C35 S36 => wx_ki (fun y37 h34 V => ?_))
    refine wq_zret (pc := 14) dX1_stake_14 rfl V.1 ⟨_, rfl, V.2⟩
theorem vX1_denied_0 {G : wq_G} {l : Launch} {d C S : Nat} {K : Int32 → wq_H → Prop} {x0 : Nat} {x1 : Int32} {h : wq_H} (V : ∃ fs5 : List Value, h x0 = some (.inr (0, fs5)) ∧ (wq_ci G l d C S mX1_refused [.ref x0, .int x1] h (fun y4 h1 C2 S3 => K (0 : Int32) h1))) : wq_T G l d mX1_denied (wq_qi K) 0 [some (.ref x0), some (.int x1)] [] h C S := by
  refine wq_aload_n (pc := 0) dX1_denied_0 rfl rfl ?_
  refine wq_iload_n (pc := 1) dX1_denied_1 rfl rfl ?_
  obtain ⟨fs5, w6, V⟩ := V
  refine clq259 (pc := 2) (As := [.int x1]) (st := []) rfl dX1_denied_2 rfl (Nat.le_of_ble_eq_true rfl) w6 V (fun C2 S3 => wx_ki (fun y4 h1 V => ?_))
  refine wq_pop (pc := 5) dX1_denied_5 rfl ?_
  refine wq_iconst (pc := 6) dX1_denied_6 gsti0 ?_
  refine wq_zret (pc := 7) dX1_denied_7 rfl gn_b0 ⟨_, rfl, V⟩
theorem vX1_granted_0 {G : wq_G} {l : Launch} {d C S : Nat} {K : Int32 → wq_H → Prop} {x0 : Nat} {h : wq_H} (V : ∃ fs5 : List Value, h x0 = some (.inr (0, fs5)) ∧ (wq_ci G l d C S mX1_well [.ref x0, .int (0 : Int32)] h (fun y4 h1 C2 S3 => K (1 : Int32) h1))) : wq_T G l d mX1_granted (wq_qi K) 0 [some (.ref x0)] [] h C S := by
  refine wq_aload_n (pc := 0) dX1_granted_0 rfl rfl ?_
  refine wq_iconst (pc := 1) dX1_granted_1 gsti0 ?_
  obtain ⟨fs5, w6, V⟩ := V
  refine clq977 (pc := 2) (As := [.int (0 : Int32)]) (st := []) rfl dX1_granted_2 rfl (Nat.le_of_ble_eq_true rfl) w6 V (fun C2 S3 => wx_ki (fun y4 h1 V => ?_))
  refine wq_pop (pc := 5) dX1_granted_5 rfl ?_
  refine wq_iconst (pc := 6) dX1_granted_6 gsti1 ?_
  refine wq_zret (pc := 7) dX1_granted_7 rfl gn_b1 ⟨_, rfl, V⟩
theorem vX1_wins_0 {G : wq_G} {l : Launch} {d C S : Nat} {K : Int32 → wq_H → Prop} {x0 : Nat} {h : wq_H} (V : wq_gQ h x0 [(0, 5)] (fun r1 => (r1 = none → ∃ fs7 : List Value, h x0 = some (.inr (0, fs7)) ∧ (wq_ci G l d C S mX1_refused [.ref x0, .int (1 : Int32)] h (fun y6 h3 C4 S5 => K y6 h3))) ∧ (∀ a2, r1 = some a2 → wq_gR h x0 [(0, 6)] (fun a9 => ∃ fs14 : List Value, h a9 = some (.inr (6, fs14)) ∧ (wq_ci G l d C S mX7_wins [.ref a9] h (fun y13 h10 C11 S12 => ∃ fs20 : List Value, h10 x0 = some (.inr (0, fs20)) ∧ (wq_ci G l d C11 S12 mX1_well [.ref x0, .int y13] h10 (fun y19 h16 C17 S18 => K y19 h16)))))))) : wq_T G l d mX1_wins (wq_qi K) 0 [some (.ref x0)] [] h C S := by
  refine wq_aload_n (pc := 0) dX1_wins_0 rfl rfl ?_
  refine gfq219 (pc := 1) rfl dX1_wins_1 V (fun r1 V => ?_)
  refine wq_ifnonnull (pc := 4) (tgt := 15) dX1_wins_4 rfl (fun a2 c => ?_) (fun c => ?_)
  · subst c
    have V := V.2 a2 rfl
    refine wq_aload_n (pc := 15) dX1_wins_15 rfl rfl ?_
    refine wq_aload_n (pc := 16) dX1_wins_16 rfl rfl ?_
    refine gfq220 (pc := 17) rfl dX1_wins_17 V (fun a9 V => ?_)
    obtain ⟨fs14, w15, V⟩ := V
    refine clq1247 (pc := 20) (As := []) (st := [.ref x0]) rfl dX1_wins_20 rfl (Nat.le_of_ble_eq_true rfl) w15 V (fun C11 S12 => wx_ki (fun y13 h10 V => ?_))
    obtain ⟨fs20, w21, V⟩ := V
    refine clq977 (pc := 23) (As := [.int y13]) (st := []) rfl dX1_wins_23 rfl (Nat.le_of_ble_eq_true rfl) w21 V (fun C17 S18 => wx_ki (fun y19 h16 V => ?_))
    refine wq_iret (pc := 26) dX1_wins_26 rfl ⟨_, rfl, V⟩
  · subst c
    have V := V.1 rfl
    refine wq_aload_n (pc := 7) dX1_wins_7 rfl rfl ?_
    refine wq_iconst (pc := 8) dX1_wins_8 gsti1 ?_
    obtain ⟨fs7, w8, V⟩ := V
    refine clq259 (pc := 9) (As := [.int (1 : Int32)]) (st := []) rfl dX1_wins_9 rfl (Nat.le_of_ble_eq_true rfl) w8 V (fun C4 S5 => wx_ki (fun y6 h3 V => ?_))
    refine wq_goto (pc := 12) (tgt := 26) dX1_wins_12 rfl ?_
    refine wq_iret (pc := 26) dX1_wins_26 rfl ⟨_, rfl, V⟩
theorem vX1_worst_0 {G : wq_G} {l : Launch} {d C S : Nat} {K : Int32 → wq_H → Prop} {x0 : Nat} {h : wq_H} (V : wq_gQ h x0 [(0, 5)] (fun r1 => (r1 = none → ∃ fs7 : List Value, h x0 = some (.inr (0, fs7)) ∧ (wq_ci G l d C S mX1_refused [.ref x0, .int (1 : Int32)] h (fun y6 h3 C4 S5 => K y6 h3))) ∧ (∀ a2, r1 = some a2 → wq_gR h x0 [(0, 6)] (fun a9 => ∃ fs14 : List Value, h x0 = some (.inr (0, fs14)) ∧ (wq_ci G l d C S mX1_leastPays [.ref x0] h (fun y13 h10 C11 S12 => ∃ fs20 : List Value, h10 a9 = some (.inr (6, fs20)) ∧ (wq_ci G l d C11 S12 mX7_pays [.ref a9, .int y13] h10 (fun y19 h16 C17 S18 => ∃ fs26 : List Value, h16 x0 = some (.inr (0, fs26)) ∧ (wq_ci G l d C17 S18 mX1_well [.ref x0, .int y19] h16 (fun y25 h22 C23 S24 => K y25 h22)))))))))) : wq_T G l d mX1_worst (wq_qi K) 0 [some (.ref x0)] [] h C S := by
  refine wq_aload_n (pc := 0) dX1_worst_0 rfl rfl ?_
  refine gfq219 (pc := 1) rfl dX1_worst_1 V (fun r1 V => ?_)
  refine wq_ifnonnull (pc := 4) (tgt := 15) dX1_worst_4 rfl (fun a2 c => ?_) (fun c => ?_)
  · subst c
    have V := V.2 a2 rfl
    refine wq_aload_n (pc := 15) dX1_worst_15 rfl rfl ?_
    refine wq_aload_n (pc := 16) dX1_worst_16 rfl rfl ?_
    refine gfq220 (pc := 17) rfl dX1_worst_17 V (fun a9 V => ?_)
    refine wq_aload_n (pc := 20) dX1_worst_20 rfl rfl ?_
    obtain ⟨fs14, w15, V⟩ := V
    refine clq1255 (pc := 21) (As := []) (st := [.ref a9, .ref x0]) rfl dX1_worst_21 rfl (Nat.le_of_ble_eq_true rfl) w15 V (fun C11 S12 => wx_ki (fun y13 h10 V => ?_))
    obtain ⟨fs20, w21, V⟩ := V
    refine clq1259 (pc := 24) (As := [.int y13]) (st := [.ref x0]) rfl dX1_worst_24 rfl (Nat.le_of_ble_eq_true rfl) w21 V (fun C17 S18 => wx_ki (fun y19 h16 V => ?_))
    obtain ⟨fs26, w27, V⟩ := V
    refine clq977 (pc := 27) (As := [.int y19]) (st := []) rfl dX1_worst_27 rfl (Nat.le_of_ble_eq_true rfl) w27 V (fun C23 S24 => wx_ki (fun y25 h22 V => ?_))
    refine wq_iret (pc := 30) dX1_worst_30 rfl ⟨_, rfl, V⟩
  · subst c
    have V := V.1 rfl
    refine wq_aload_n (pc := 7) dX1_worst_7 rfl rfl ?_
    refine wq_iconst (pc := 8) dX1_worst_8 gsti1 ?_
    obtain ⟨fs7, w8, V⟩ := V
    refine clq259 (pc := 9) (As := [.int (1 : Int32)]) (st := []) rfl dX1_worst_9 rfl (Nat.le_of_ble_eq_true rfl) w8 V (fun C4 S5 => wx_ki (fun y6 h3 V => ?_))
    refine wq_goto (pc := 12) (tgt := 30) dX1_worst_12 rfl ?_
    refine wq_iret (pc := 30) dX1_worst_30 rfl ⟨_, rfl, V⟩
theorem vX1_leastPays_0 {G : wq_G} {l : Launch} {d C S : Nat} {K : Int32 → wq_H → Prop} {x0 : Nat} {h : wq_H} (V : wq_T G l d mX1_leastPays (wq_qi K) 4 [some (.ref x0), some (.int (0 : Int32)), some (.int (1 : Int32))] [] h C S) : wq_T G l d mX1_leastPays (wq_qi K) 0 [some (.ref x0), none, none] [] h C S := by
  refine wq_iconst (pc := 0) dX1_leastPays_0 gsti0 ?_
  refine wq_istore_n (L' := [some (.ref x0), some (.int (0 : Int32)), none]) (pc := 1) dX1_leastPays_1 rfl (Nat.le_of_ble_eq_true rfl) rfl ?_
  refine wq_iconst (pc := 2) dX1_leastPays_2 gsti1 ?_
  refine wq_istore_n (L' := [some (.ref x0), some (.int (0 : Int32)), some (.int (1 : Int32))]) (pc := 3) dX1_leastPays_3 rfl (Nat.le_of_ble_eq_true rfl) rfl ?_
  exact wq_T.less V ⟨rfl, ⟨rfl, ⟨rfl, trivial⟩⟩⟩
theorem vX1_leastPays_4 {G : wq_G} {l : Launch} {d C S : Nat} {K : Int32 → wq_H → Prop} {x0 : Nat} {x1 : Int32} {x2 : Int32} {h : wq_H} (V : wq_gQ h x0 [(0, 5)] (fun r1 => ∃ a2, r1 = some a2 ∧ (∃ fs8 : List Value, h a2 = some (.inr (5, fs8)) ∧ (wq_ci G l d C S mX6_hiddens [.ref a2] h (fun y7 h4 C5 S6 => (y7 ≤ x2 → K x1 h4) ∧ (¬ y7 ≤ x2 → wq_gR h4 x0 [(0, 6)] (fun a10 => ∃ fs15 : List Value, h4 a10 = some (.inr (6, fs15)) ∧ (wq_ci G l d C5 S6 mX7_pays [.ref a10, .int x2] h4 (fun y14 h11 C12 S13 => wq_gR h11 x0 [(0, 6)] (fun a17 => ∃ fs22 : List Value, h11 a17 = some (.inr (6, fs22)) ∧ (wq_ci G l d C12 S13 mX7_pays [.ref a17, .int x1] h11 (fun y21 h18 C19 S20 => (y21 ≤ y14 → wq_T G l d mX1_leastPays (wq_qi K) 4 [some (.ref x0), some (.int x1), some (.int (x2 + (1 : Int32)))] [] h18 C19 S20) ∧ (¬ y21 ≤ y14 → wq_T G l d mX1_leastPays (wq_qi K) 4 [some (.ref x0), some (.int x2), some (.int (x2 + (1 : Int32)))] [] h18 C19 S20))))))))))))) : wq_T G l d mX1_leastPays (wq_qi K) 4 [some (.ref x0), some (.int x1), some (.int x2)] [] h C S := by
  refine wq_iload_n (pc := 4) dX1_leastPays_4 rfl rfl ?_
  refine wq_aload_n (pc := 5) dX1_leastPays_5 rfl rfl ?_
  refine gfq219 (pc := 6) rfl dX1_leastPays_6 V (fun r1 V => ?_)
  obtain ⟨a2, w3, V⟩ := V
  rw [w3]
  obtain ⟨fs8, w9, V⟩ := V
  refine clq997 (pc := 9) (As := []) (st := [.int x2]) rfl dX1_leastPays_9 rfl (Nat.le_of_ble_eq_true rfl) w9 V (fun C5 S6 => wx_ki (fun y7 h4 V => ?_))
  refine wq_icmp_ge (pc := 12) (tgt := 42) dX1_leastPays_12 rfl (fun c => ?_) (fun c => ?_)
  · have V := V.1 c
    refine wq_iload_n (pc := 42) dX1_leastPays_42 rfl rfl ?_
    refine wq_iret (pc := 43) dX1_leastPays_43 rfl ⟨_, rfl, V⟩
  · have V := V.2 c
    refine wq_aload_n (pc := 15) dX1_leastPays_15 rfl rfl ?_
    refine gfq220 (pc := 16) rfl dX1_leastPays_16 V (fun a10 V => ?_)
    refine wq_iload_n (pc := 19) dX1_leastPays_19 rfl rfl ?_
    obtain ⟨fs15, w16, V⟩ := V
    refine clq1259 (pc := 20) (As := [.int x2]) (st := []) rfl dX1_leastPays_20 rfl (Nat.le_of_ble_eq_true rfl) w16 V (fun C12 S13 => wx_ki (fun y14 h11 V => ?_))
    refine wq_aload_n (pc := 23) dX1_leastPays_23 rfl rfl ?_
    refine gfq220 (pc := 24) rfl dX1_leastPays_24 V (fun a17 V => ?_)
    refine wq_iload_n (pc := 27) dX1_leastPays_27 rfl rfl ?_
    obtain ⟨fs22, w23, V⟩ := V
    refine clq1259 (pc := 28) (As := [.int x1]) (st := [.int y14]) rfl dX1_leastPays_28 rfl (Nat.le_of_ble_eq_true rfl) w23 V (fun C19 S20 => wx_ki (fun y21 h18 V => ?_))
    refine wq_icmp_ge (pc := 31) (tgt := 36) dX1_leastPays_31 rfl (fun c => ?_) (fun c => ?_)
    · have V := V.1 c
      refine wq_iinc (L' := [some (.ref x0), some (.int x1), some (.int (x2 + (1 : Int32)))]) (pc := 36) dX1_leastPays_36 rfl (by rw [gsti1]) (Nat.le_of_ble_eq_true rfl) rfl ?_
      refine wq_goto (pc := 39) (tgt := 4) dX1_leastPays_39 rfl ?_
      exact wq_T.less V ⟨rfl, ⟨rfl, ⟨rfl, trivial⟩⟩⟩
    · have V := V.2 c
      refine wq_iload_n (pc := 34) dX1_leastPays_34 rfl rfl ?_
      refine wq_istore_n (L' := [some (.ref x0), some (.int x2), some (.int x2)]) (pc := 35) dX1_leastPays_35 rfl (Nat.le_of_ble_eq_true rfl) rfl ?_
      refine wq_iinc (L' := [some (.ref x0), some (.int x2), some (.int (x2 + (1 : Int32)))]) (pc := 36) dX1_leastPays_36 rfl (by rw [gsti1]) (Nat.le_of_ble_eq_true rfl) rfl ?_
      refine wq_goto (pc := 39) (tgt := 4) dX1_leastPays_39 rfl ?_
      exact wq_T.less V ⟨rfl, ⟨rfl, ⟨rfl, trivial⟩⟩⟩
theorem vX1_worstAt_0 {G : wq_G} {l : Launch} {d C S : Nat} {K : Int32 → wq_H → Prop} {x0 : Nat} {h : wq_H} (V : wq_gQ h x0 [(0, 5)] (fun r1 => (r1 = none → ∃ fs7 : List Value, h x0 = some (.inr (0, fs7)) ∧ (wq_ci G l d C S mX1_refused [.ref x0, .int (1 : Int32)] h (fun y6 h3 C4 S5 => K y6 h3))) ∧ (∀ a2, r1 = some a2 → ∃ fs13 : List Value, h x0 = some (.inr (0, fs13)) ∧ (wq_ci G l d C S mX1_leastPays [.ref x0] h (fun y12 h9 C10 S11 => ∃ fs19 : List Value, h9 x0 = some (.inr (0, fs19)) ∧ (wq_ci G l d C10 S11 mX1_well [.ref x0, .int y12] h9 (fun y18 h15 C16 S17 => K y18 h15))))))) : wq_T G l d mX1_worstAt (wq_qi K) 0 [some (.ref x0)] [] h C S := by
  refine wq_aload_n (pc := 0) dX1_worstAt_0 rfl rfl ?_
  refine gfq219 (pc := 1) rfl dX1_worstAt_1 V (fun r1 V => ?_)
  refine wq_ifnonnull (pc := 4) (tgt := 15) dX1_worstAt_4 rfl (fun a2 c => ?_) (fun c => ?_)
  · subst c
    have V := V.2 a2 rfl
    refine wq_aload_n (pc := 15) dX1_worstAt_15 rfl rfl ?_
    refine wq_aload_n (pc := 16) dX1_worstAt_16 rfl rfl ?_
    obtain ⟨fs13, w14, V⟩ := V
    refine clq1255 (pc := 17) (As := []) (st := [.ref x0]) rfl dX1_worstAt_17 rfl (Nat.le_of_ble_eq_true rfl) w14 V (fun C10 S11 => wx_ki (fun y12 h9 V => ?_))
    obtain ⟨fs19, w20, V⟩ := V
    refine clq977 (pc := 20) (As := [.int y12]) (st := []) rfl dX1_worstAt_20 rfl (Nat.le_of_ble_eq_true rfl) w20 V (fun C16 S17 => wx_ki (fun y18 h15 V => ?_))
    refine wq_iret (pc := 23) dX1_worstAt_23 rfl ⟨_, rfl, V⟩
  · subst c
    have V := V.1 rfl
    refine wq_aload_n (pc := 7) dX1_worstAt_7 rfl rfl ?_
    refine wq_iconst (pc := 8) dX1_worstAt_8 gsti1 ?_
    obtain ⟨fs7, w8, V⟩ := V
    refine clq259 (pc := 9) (As := [.int (1 : Int32)]) (st := []) rfl dX1_worstAt_9 rfl (Nat.le_of_ble_eq_true rfl) w8 V (fun C4 S5 => wx_ki (fun y6 h3 V => ?_))
    refine wq_goto (pc := 12) (tgt := 23) dX1_worstAt_12 rfl ?_
    refine wq_iret (pc := 23) dX1_worstAt_23 rfl ⟨_, rfl, V⟩
theorem vX1_bars_0 {G : wq_G} {l : Launch} {d C S : Nat} {K : Int32 → wq_H → Prop} {x0 : Nat} {h : wq_H} (V : wq_gQ h x0 [(0, 5)] (fun r1 => (r1 = none → ∃ fs7 : List Value, h x0 = some (.inr (0, fs7)) ∧ (wq_ci G l d C S mX1_refused [.ref x0, .int (1 : Int32)] h (fun y6 h3 C4 S5 => K y6 h3))) ∧ (∀ a2, r1 = some a2 → wq_gR h x0 [(0, 6)] (fun a9 => ∃ fs14 : List Value, h a9 = some (.inr (6, fs14)) ∧ (wq_ci G l d C S mX7_wins [.ref a9] h (fun y13 h10 C11 S12 => wq_gR h10 x0 [(0, 6)] (fun a16 => ∃ fs21 : List Value, h10 x0 = some (.inr (0, fs21)) ∧ (wq_ci G l d C11 S12 mX1_leastPays [.ref x0] h10 (fun y20 h17 C18 S19 => ∃ fs27 : List Value, h17 a16 = some (.inr (6, fs27)) ∧ (wq_ci G l d C18 S19 mX7_pays [.ref a16, .int y20] h17 (fun y26 h23 C24 S25 => wq_gQ h23 x0 [(0, 5)] (fun r29 => ∃ a30, r29 = some a30 ∧ (wq_gI h23 a30 [(5, 0)] (fun y32 => ((y26 * y32) ≤ y13 → ∃ fs37 : List Value, h23 x0 = some (.inr (0, fs37)) ∧ (wq_ci G l d C24 S25 mX1_well [.ref x0, .int (0 : Int32)] h23 (fun y36 h33 C34 S35 => K y36 h33))) ∧ (¬ (y26 * y32) ≤ y13 → ∃ fs43 : List Value, h23 x0 = some (.inr (0, fs43)) ∧ (wq_ci G l d C24 S25 mX1_well [.ref x0, .int (1 : Int32)] h23 (fun y42 h39 C40 S41 => K y42 h39))))))))))))))))) : wq_T G l d mX1_bars (wq_qi K) 0 [some (.ref x0)] [] h C S := by
  refine wq_aload_n (pc := 0) dX1_bars_0 rfl rfl ?_
  refine gfq219 (pc := 1) rfl dX1_bars_1 V (fun r1 V => ?_)
  refine wq_ifnonnull (pc := 4) (tgt := 15) dX1_bars_4 rfl (fun a2 c => ?_) (fun c => ?_)
  · subst c
    have V := V.2 a2 rfl
    refine wq_aload_n (pc := 15) dX1_bars_15 rfl rfl ?_
    refine wq_aload_n (pc := 16) dX1_bars_16 rfl rfl ?_
    refine gfq220 (pc := 17) rfl dX1_bars_17 V (fun a9 V => ?_)
    obtain ⟨fs14, w15, V⟩ := V
    refine clq1247 (pc := 20) (As := []) (st := [.ref x0]) rfl dX1_bars_20 rfl (Nat.le_of_ble_eq_true rfl) w15 V (fun C11 S12 => wx_ki (fun y13 h10 V => ?_))
    refine wq_aload_n (pc := 23) dX1_bars_23 rfl rfl ?_
    refine gfq220 (pc := 24) rfl dX1_bars_24 V (fun a16 V => ?_)
    refine wq_aload_n (pc := 27) dX1_bars_27 rfl rfl ?_
    obtain ⟨fs21, w22, V⟩ := V
    refine clq1255 (pc := 28) (As := []) (st := [.ref a16, .int y13, .ref x0]) rfl dX1_bars_28 rfl (Nat.le_of_ble_eq_true rfl) w22 V (fun C18 S19 => wx_ki (fun y20 h17 V => ?_))
    obtain ⟨fs27, w28, V⟩ := V
    refine clq1259 (pc := 31) (As := [.int y20]) (st := [.int y13, .ref x0]) rfl dX1_bars_31 rfl (Nat.le_of_ble_eq_true rfl) w28 V (fun C24 S25 => wx_ki (fun y26 h23 V => ?_))
    refine wq_aload_n (pc := 34) dX1_bars_34 rfl rfl ?_
    refine gfq219 (pc := 35) rfl dX1_bars_35 V (fun r29 V => ?_)
    obtain ⟨a30, w31, V⟩ := V
    rw [w31]
    refine gfq308 (pc := 38) rfl dX1_bars_38 V (fun y32 V => ?_)
    refine wq_imul (pc := 41) dX1_bars_41 ?_
    refine wq_icmp_ge (pc := 42) (tgt := 49) dX1_bars_42 rfl (fun c => ?_) (fun c => ?_)
    · have V := V.1 c
      refine wq_iconst (pc := 49) dX1_bars_49 gsti0 ?_
      obtain ⟨fs37, w38, V⟩ := V
      refine clq977 (pc := 50) (As := [.int (0 : Int32)]) (st := []) rfl dX1_bars_50 rfl (Nat.le_of_ble_eq_true rfl) w38 V (fun C34 S35 => wx_ki (fun y36 h33 V => ?_))
      refine wq_iret (pc := 53) dX1_bars_53 rfl ⟨_, rfl, V⟩
    · have V := V.2 c
      refine wq_iconst (pc := 45) dX1_bars_45 gsti1 ?_
      refine wq_goto (pc := 46) (tgt := 50) dX1_bars_46 rfl ?_
      obtain ⟨fs43, w44, V⟩ := V
      refine clq977 (pc := 50) (As := [.int (1 : Int32)]) (st := []) rfl dX1_bars_50 rfl (Nat.le_of_ble_eq_true rfl) w44 V (fun C40 S41 => wx_ki (fun y42 h39 V => ?_))
      refine wq_iret (pc := 53) dX1_bars_53 rfl ⟨_, rfl, V⟩
  · subst c
    have V := V.1 rfl
    refine wq_aload_n (pc := 7) dX1_bars_7 rfl rfl ?_
    refine wq_iconst (pc := 8) dX1_bars_8 gsti1 ?_
    obtain ⟨fs7, w8, V⟩ := V
    refine clq259 (pc := 9) (As := [.int (1 : Int32)]) (st := []) rfl dX1_bars_9 rfl (Nat.le_of_ble_eq_true rfl) w8 V (fun C4 S5 => wx_ki (fun y6 h3 V => ?_))
    refine wq_goto (pc := 12) (tgt := 53) dX1_bars_12 rfl ?_
    refine wq_iret (pc := 53) dX1_bars_53 rfl ⟨_, rfl, V⟩
theorem vX1_fair_0 {G : wq_G} {l : Launch} {d C S : Nat} {K : Int32 → wq_H → Prop} {x0 : Nat} {x1 : Int32} {h : wq_H} (V : wq_gQ h x0 [(0, 5)] (fun r1 => (r1 = none → ∃ fs7 : List Value, h x0 = some (.inr (0, fs7)) ∧ (wq_ci G l d C S mX1_refused [.ref x0, .int (1 : Int32)] h (fun y6 h3 C4 S5 => K y6 h3))) ∧ (∀ a2, r1 = some a2 → wq_gR h x0 [(0, 6)] (fun a9 => ∃ fs14 : List Value, h x0 = some (.inr (0, fs14)) ∧ (wq_ci G l d C S mX1_leastPays [.ref x0] h (fun y13 h10 C11 S12 => ∃ fs20 : List Value, h10 a9 = some (.inr (6, fs20)) ∧ (wq_ci G l d C11 S12 mX7_pays [.ref a9, .int y13] h10 (fun y19 h16 C17 S18 => wq_gQ h16 x0 [(0, 5)] (fun r22 => ∃ a23, r22 = some a23 ∧ (wq_gI h16 a23 [(5, 0)] (fun y25 => ((y19 * y25) = 0 → ∃ fs30 : List Value, h16 x0 = some (.inr (0, fs30)) ∧ (wq_ci G l d C17 S18 mX1_well [.ref x0, .int (1 : Int32)] h16 (fun y29 h26 C27 S28 => K y29 h26))) ∧ (¬ (y19 * y25) = 0 → wq_gR h16 x0 [(0, 6)] (fun a32 => ∃ fs37 : List Value, h16 a32 = some (.inr (6, fs37)) ∧ (wq_ci G l d C17 S18 mX7_wins [.ref a32] h16 (fun y36 h33 C34 S35 => (y36 ≤ (y19 * y25) → wq_gR h33 x0 [(0, 6)] (fun a39 => ∃ fs44 : List Value, h33 a39 = some (.inr (6, fs44)) ∧ (wq_ci G l d C34 S35 mX7_wins [.ref a39] h33 (fun y43 h40 C41 S42 => wq_ci G l d C41 S42 mX1_lowest [.long y43.toInt64, .long ((y19 * y25).toInt64), .int x1] h40 (fun y49 h46 C47 S48 => ∃ fs54 : List Value, h46 x0 = some (.inr (0, fs54)) ∧ (wq_ci G l d C47 S48 mX1_well [.ref x0, .int y49] h46 (fun y53 h50 C51 S52 => K y53 h50))))))) ∧ (¬ y36 ≤ (y19 * y25) → ∃ fs60 : List Value, h33 x0 = some (.inr (0, fs60)) ∧ (wq_ci G l d C34 S35 mX1_well [.ref x0, .int (1 : Int32)] h33 (fun y59 h56 C57 S58 => K y59 h56)))))))))))))))))) : wq_T G l d mX1_fair (wq_qi K) 0 [some (.ref x0), some (.int x1), none] [] h C S := by
  refine wq_aload_n (pc := 0) dX1_fair_0 rfl rfl ?_
  refine gfq219 (pc := 1) rfl dX1_fair_1 V (fun r1 V => ?_)
  refine wq_ifnonnull (pc := 4) (tgt := 13) dX1_fair_4 rfl (fun a2 c => ?_) (fun c => ?_)
  · subst c
    have V := V.2 a2 rfl
    refine wq_aload_n (pc := 13) dX1_fair_13 rfl rfl ?_
    refine gfq220 (pc := 14) rfl dX1_fair_14 V (fun a9 V => ?_)
    refine wq_aload_n (pc := 17) dX1_fair_17 rfl rfl ?_
    obtain ⟨fs14, w15, V⟩ := V
    refine clq1255 (pc := 18) (As := []) (st := [.ref a9]) rfl dX1_fair_18 rfl (Nat.le_of_ble_eq_true rfl) w15 V (fun C11 S12 => wx_ki (fun y13 h10 V => ?_))
    obtain ⟨fs20, w21, V⟩ := V
    refine clq1259 (pc := 21) (As := [.int y13]) (st := []) rfl dX1_fair_21 rfl (Nat.le_of_ble_eq_true rfl) w21 V (fun C17 S18 => wx_ki (fun y19 h16 V => ?_))
    refine wq_aload_n (pc := 24) dX1_fair_24 rfl rfl ?_
    refine gfq219 (pc := 25) rfl dX1_fair_25 V (fun r22 V => ?_)
    obtain ⟨a23, w24, V⟩ := V
    rw [w24]
    refine gfq308 (pc := 28) rfl dX1_fair_28 V (fun y25 V => ?_)
    refine wq_imul (pc := 31) dX1_fair_31 ?_
    refine wq_istore_n (L' := [some (.ref x0), some (.int x1), some (.int (y19 * y25))]) (pc := 32) dX1_fair_32 rfl (Nat.le_of_ble_eq_true rfl) rfl ?_
    refine wq_aload_n (pc := 33) dX1_fair_33 rfl rfl ?_
    refine wq_iload_n (pc := 34) dX1_fair_34 rfl rfl ?_
    refine wq_if_eq (pc := 35) (tgt := 49) dX1_fair_35 rfl (fun c => ?_) (fun c => ?_)
    · have V := V.1 c
      refine wq_iconst (pc := 49) dX1_fair_49 gsti1 ?_
      refine wq_goto (pc := 50) (tgt := 67) dX1_fair_50 rfl ?_
      obtain ⟨fs30, w31, V⟩ := V
      refine clq977 (pc := 67) (As := [.int (1 : Int32)]) (st := []) rfl dX1_fair_67 rfl (Nat.le_of_ble_eq_true rfl) w31 V (fun C27 S28 => wx_ki (fun y29 h26 V => ?_))
      refine wq_iret (pc := 70) dX1_fair_70 rfl ⟨_, rfl, V⟩
    · have V := V.2 c
      refine wq_aload_n (pc := 38) dX1_fair_38 rfl rfl ?_
      refine gfq220 (pc := 39) rfl dX1_fair_39 V (fun a32 V => ?_)
      obtain ⟨fs37, w38, V⟩ := V
      refine clq1247 (pc := 42) (As := []) (st := [.ref x0]) rfl dX1_fair_42 rfl (Nat.le_of_ble_eq_true rfl) w38 V (fun C34 S35 => wx_ki (fun y36 h33 V => ?_))
      refine wq_iload_n (pc := 45) dX1_fair_45 rfl rfl ?_
      refine wq_icmp_le (pc := 46) (tgt := 53) dX1_fair_46 rfl (fun c => ?_) (fun c => ?_)
      · have V := V.1 c
        refine wq_aload_n (pc := 53) dX1_fair_53 rfl rfl ?_
        refine gfq220 (pc := 54) rfl dX1_fair_54 V (fun a39 V => ?_)
        obtain ⟨fs44, w45, V⟩ := V
        refine clq1247 (pc := 57) (As := []) (st := [.ref x0]) rfl dX1_fair_57 rfl (Nat.le_of_ble_eq_true rfl) w45 V (fun C41 S42 => wx_ki (fun y43 h40 V => ?_))
        refine wq_i2l (pc := 60) dX1_fair_60 ?_
        refine wq_iload_n (pc := 61) dX1_fair_61 rfl rfl ?_
        refine wq_i2l (pc := 62) dX1_fair_62 ?_
        refine wq_iload_n (pc := 63) dX1_fair_63 rfl rfl ?_
        refine clq1049 (pc := 64) (As := [.long y43.toInt64, .long ((y19 * y25).toInt64), .int x1]) (st := [.ref x0]) rfl dX1_fair_64 rfl (Nat.le_of_ble_eq_true rfl) V (fun C47 S48 => wx_ki (fun y49 h46 V => ?_))
        obtain ⟨fs54, w55, V⟩ := V
        refine clq977 (pc := 67) (As := [.int y49]) (st := []) rfl dX1_fair_67 rfl (Nat.le_of_ble_eq_true rfl) w55 V (fun C51 S52 => wx_ki (fun y53 h50 V => ?_))
        refine wq_iret (pc := 70) dX1_fair_70 rfl ⟨_, rfl, V⟩
      · have V := V.2 c
        refine wq_iconst (pc := 49) dX1_fair_49 gsti1 ?_
        refine wq_goto (pc := 50) (tgt := 67) dX1_fair_50 rfl ?_
        obtain ⟨fs60, w61, V⟩ := V
        refine clq977 (pc := 67) (As := [.int (1 : Int32)]) (st := []) rfl dX1_fair_67 rfl (Nat.le_of_ble_eq_true rfl) w61 V (fun C57 S58 => wx_ki (fun y59 h56 V => ?_))
        refine wq_iret (pc := 70) dX1_fair_70 rfl ⟨_, rfl, V⟩
  · subst c
    have V := V.1 rfl
    refine wq_aload_n (pc := 7) dX1_fair_7 rfl rfl ?_
    refine wq_iconst (pc := 8) dX1_fair_8 gsti1 ?_
    obtain ⟨fs7, w8, V⟩ := V
    refine clq259 (pc := 9) (As := [.int (1 : Int32)]) (st := []) rfl dX1_fair_9 rfl (Nat.le_of_ble_eq_true rfl) w8 V (fun C4 S5 => wx_ki (fun y6 h3 V => ?_))
    refine wq_iret (pc := 12) dX1_fair_12 rfl ⟨_, rfl, V⟩
theorem vX1_ways_0 {G : wq_G} {l : Launch} {d C S : Nat} {K : Int32 → wq_H → Prop} {x0 : Nat} {h : wq_H} (V : wq_gQ h x0 [(0, 5)] (fun r1 => (r1 = none → ∃ fs7 : List Value, h x0 = some (.inr (0, fs7)) ∧ (wq_ci G l d C S mX1_refused [.ref x0, .int (1 : Int32)] h (fun y6 h3 C4 S5 => K y6 h3))) ∧ (∀ a2, r1 = some a2 → wq_T G l d mX1_ways (wq_qi K) 17 [some (.ref x0), some (.int (0 : Int32)), some (.int (0 : Int32))] [] h C S))) : wq_T G l d mX1_ways (wq_qi K) 0 [some (.ref x0), none, none] [] h C S := by
  refine wq_aload_n (pc := 0) dX1_ways_0 rfl rfl ?_
  refine gfq219 (pc := 1) rfl dX1_ways_1 V (fun r1 V => ?_)
  refine wq_ifnonnull (pc := 4) (tgt := 13) dX1_ways_4 rfl (fun a2 c => ?_) (fun c => ?_)
  · subst c
    have V := V.2 a2 rfl
    refine wq_iconst (pc := 13) dX1_ways_13 gsti0 ?_
    refine wq_istore_n (L' := [some (.ref x0), some (.int (0 : Int32)), none]) (pc := 14) dX1_ways_14 rfl (Nat.le_of_ble_eq_true rfl) rfl ?_
    refine wq_iconst (pc := 15) dX1_ways_15 gsti0 ?_
    refine wq_istore_n (L' := [some (.ref x0), some (.int (0 : Int32)), some (.int (0 : Int32))]) (pc := 16) dX1_ways_16 rfl (Nat.le_of_ble_eq_true rfl) rfl ?_
    exact wq_T.less V ⟨rfl, ⟨rfl, ⟨rfl, trivial⟩⟩⟩
  · subst c
    have V := V.1 rfl
    refine wq_aload_n (pc := 7) dX1_ways_7 rfl rfl ?_
    refine wq_iconst (pc := 8) dX1_ways_8 gsti1 ?_
    obtain ⟨fs7, w8, V⟩ := V
    refine clq259 (pc := 9) (As := [.int (1 : Int32)]) (st := []) rfl dX1_ways_9 rfl (Nat.le_of_ble_eq_true rfl) w8 V (fun C4 S5 => wx_ki (fun y6 h3 V => ?_))
    refine wq_iret (pc := 12) dX1_ways_12 rfl ⟨_, rfl, V⟩
theorem vX1_ways_17 {G : wq_G} {l : Launch} {d C S : Nat} {K : Int32 → wq_H → Prop} {x0 : Nat} {x1 : Int32} {x2 : Int32} {h : wq_H} (V : wq_gQ h x0 [(0, 5)] (fun r1 => ∃ a2, r1 = some a2 ∧ (wq_gI h a2 [(5, 2)] (fun y4 => (((1 : Int32) <<< (y4 &&& 31)) ≤ x2 → ∃ fs9 : List Value, h x0 = some (.inr (0, fs9)) ∧ (wq_ci G l d C S mX1_well [.ref x0, .int x1] h (fun y8 h5 C6 S7 => K y8 h5))) ∧ (¬ ((1 : Int32) <<< (y4 &&& 31)) ≤ x2 → wq_gQ h x0 [(0, 5)] (fun r11 => ∃ fs16 : List Value, h x0 = some (.inr (0, fs16)) ∧ (wq_ci G l d C S mX1_allLines [.ref x0] h (fun y15 h12 C13 S14 => ∃ a18, r11 = some a18 ∧ (∃ fs24 : List Value, h12 a18 = some (.inr (5, fs24)) ∧ (wq_ci G l d C13 S14 mX6_can [.ref a18, .int y15, .int x2] h12 (fun y23 h20 C21 S22 => (y23 = 0 → wq_T G l d mX1_ways (wq_qi K) 17 [some (.ref x0), some (.int (x1 + (0 : Int32))), some (.int (x2 + (1 : Int32)))] [] h20 C21 S22) ∧ (¬ y23 = 0 → wq_T G l d mX1_ways (wq_qi K) 17 [some (.ref x0), some (.int (x1 + (1 : Int32))), some (.int (x2 + (1 : Int32)))] [] h20 C21 S22)))))))))))) : wq_T G l d mX1_ways (wq_qi K) 17 [some (.ref x0), some (.int x1), some (.int x2)] [] h C S := by
  refine wq_iload_n (pc := 17) dX1_ways_17 rfl rfl ?_
  refine wq_iconst (pc := 18) dX1_ways_18 gsti1 ?_
  refine wq_aload_n (pc := 19) dX1_ways_19 rfl rfl ?_
  refine gfq219 (pc := 20) rfl dX1_ways_20 V (fun r1 V => ?_)
  obtain ⟨a2, w3, V⟩ := V
  rw [w3]
  refine gfq314 (pc := 23) rfl dX1_ways_23 V (fun y4 V => ?_)
  refine wq_ishl (pc := 26) dX1_ways_26 ?_
  refine wq_icmp_ge (pc := 27) (tgt := 59) dX1_ways_27 rfl (fun c => ?_) (fun c => ?_)
  · have V := V.1 c
    refine wq_aload_n (pc := 59) dX1_ways_59 rfl rfl ?_
    refine wq_iload_n (pc := 60) dX1_ways_60 rfl rfl ?_
    obtain ⟨fs9, w10, V⟩ := V
    refine clq977 (pc := 61) (As := [.int x1]) (st := []) rfl dX1_ways_61 rfl (Nat.le_of_ble_eq_true rfl) w10 V (fun C6 S7 => wx_ki (fun y8 h5 V => ?_))
    refine wq_iret (pc := 64) dX1_ways_64 rfl ⟨_, rfl, V⟩
  · have V := V.2 c
    refine wq_iload_n (pc := 30) dX1_ways_30 rfl rfl ?_
    refine wq_aload_n (pc := 31) dX1_ways_31 rfl rfl ?_
    refine gfq219 (pc := 32) rfl dX1_ways_32 V (fun r11 V => ?_)
    refine wq_aload_n (pc := 35) dX1_ways_35 rfl rfl ?_
    obtain ⟨fs16, w17, V⟩ := V
    refine clq1279 (pc := 36) (As := []) (st := [va_rf r11, .int x1]) rfl dX1_ways_36 rfl (by simp only [List.map_cons, List.map_nil, List.sum_cons, List.sum_nil, wq_cat1]; exact Nat.le_of_ble_eq_true rfl) w17 V (fun C13 S14 => wx_ki (fun y15 h12 V => ?_))
    refine wq_iload_n (pc := 39) dX1_ways_39 rfl rfl ?_
    obtain ⟨a18, w19, V⟩ := V
    rw [w19]
    obtain ⟨fs24, w25, V⟩ := V
    refine clq1284 (pc := 40) (As := [.int y15, .int x2]) (st := [.int x1]) rfl dX1_ways_40 rfl (Nat.le_of_ble_eq_true rfl) w25 V (fun C21 S22 => wx_ki (fun y23 h20 V => ?_))
    refine wq_if_eq (pc := 43) (tgt := 50) dX1_ways_43 rfl (fun c => ?_) (fun c => ?_)
    · have V := V.1 c
      refine wq_iconst (pc := 50) dX1_ways_50 gsti0 ?_
      refine wq_iadd (pc := 51) dX1_ways_51 ?_
      refine wq_istore_n (L' := [some (.ref x0), some (.int (x1 + (0 : Int32))), some (.int x2)]) (pc := 52) dX1_ways_52 rfl (Nat.le_of_ble_eq_true rfl) rfl ?_
      refine wq_iinc (L' := [some (.ref x0), some (.int (x1 + (0 : Int32))), some (.int (x2 + (1 : Int32)))]) (pc := 53) dX1_ways_53 rfl (by rw [gsti1]) (Nat.le_of_ble_eq_true rfl) rfl ?_
      refine wq_goto (pc := 56) (tgt := 17) dX1_ways_56 rfl ?_
      exact wq_T.less V ⟨rfl, ⟨rfl, ⟨rfl, trivial⟩⟩⟩
    · have V := V.2 c
      refine wq_iconst (pc := 46) dX1_ways_46 gsti1 ?_
      refine wq_goto (pc := 47) (tgt := 51) dX1_ways_47 rfl ?_
      refine wq_iadd (pc := 51) dX1_ways_51 ?_
      refine wq_istore_n (L' := [some (.ref x0), some (.int (x1 + (1 : Int32))), some (.int x2)]) (pc := 52) dX1_ways_52 rfl (Nat.le_of_ble_eq_true rfl) rfl ?_
      refine wq_iinc (L' := [some (.ref x0), some (.int (x1 + (1 : Int32))), some (.int (x2 + (1 : Int32)))]) (pc := 53) dX1_ways_53 rfl (by rw [gsti1]) (Nat.le_of_ble_eq_true rfl) rfl ?_
      refine wq_goto (pc := 56) (tgt := 17) dX1_ways_56 rfl ?_
      exact wq_T.less V ⟨rfl, ⟨rfl, ⟨rfl, trivial⟩⟩⟩
theorem vX1_allLines_0 {G : wq_G} {l : Launch} {d C S : Nat} {K : Int32 → wq_H → Prop} {x0 : Nat} {h : wq_H} (V : wq_gQ h x0 [(0, 5)] (fun r1 => ∃ a2, r1 = some a2 ∧ (wq_gR h a2 [(5, 4)] (fun a4 => ∃ fs9 : List Value, h a4 = some (.inr (16, fs9)) ∧ (wq_ci G l d C S mJ2_size [.ref a4] h (fun y8 h5 C6 S7 => K (((1 : Int32) <<< (y8 &&& 31)) - (1 : Int32)) h5)))))) : wq_T G l d mX1_allLines (wq_qi K) 0 [some (.ref x0)] [] h C S := by
  refine wq_iconst (pc := 0) dX1_allLines_0 gsti1 ?_
  refine wq_aload_n (pc := 1) dX1_allLines_1 rfl rfl ?_
  refine gfq219 (pc := 2) rfl dX1_allLines_2 V (fun r1 V => ?_)
  obtain ⟨a2, w3, V⟩ := V
  rw [w3]
  refine gfq320 (pc := 5) rfl dX1_allLines_5 V (fun a4 V => ?_)
  obtain ⟨fs9, w10, V⟩ := V
  refine clq1283 (pc := 8) (As := []) (st := [.int (1 : Int32)]) rfl dX1_allLines_8 rfl (Nat.le_of_ble_eq_true rfl) w10 V (fun C6 S7 => wx_ki (fun y8 h5 V => ?_))
  refine wq_ishl (pc := 11) dX1_allLines_11 ?_
  refine wq_iconst (pc := 12) dX1_allLines_12 gsti1 ?_
  refine wq_isub (pc := 13) dX1_allLines_13 ?_
  refine wq_iret (pc := 14) dX1_allLines_14 rfl ⟨_, rfl, V⟩
theorem vX1_forced_0 {G : wq_G} {l : Launch} {d C S : Nat} {K : Int32 → wq_H → Prop} {x0 : Nat} {x1 : Int32} {h : wq_H} (V : wq_gQ h x0 [(0, 5)] (fun r1 => (r1 = none → ∃ fs7 : List Value, h x0 = some (.inr (0, fs7)) ∧ (wq_ci G l d C S mX1_refused [.ref x0, .int (1 : Int32)] h (fun y6 h3 C4 S5 => K y6 h3))) ∧ (∀ a2, r1 = some a2 → wq_gQ h x0 [(0, 5)] (fun r9 => ∃ a10, r9 = some a10 ∧ (wq_gI h a10 [(5, 2)] (fun y12 => wq_ci G l d C S mX1_in [.int x1, .int (0 : Int32), .int (y12 - (1 : Int32))] h (fun y16 h13 C14 S15 => (¬ y16 = 0 → wq_T G l d mX1_forced (wq_qi K) 37 [some (.ref x0), some (.int x1), some (.int (0 : Int32)), some (.int (0 : Int32)), some (.int (0 : Int32))] [] h13 C14 S15) ∧ (y16 = 0 → ∃ fs21 : List Value, h13 x0 = some (.inr (0, fs21)) ∧ (wq_ci G l d C14 S15 mX1_refused [.ref x0, .int (1 : Int32)] h13 (fun y20 h17 C18 S19 => K y20 h17)))))))))) : wq_T G l d mX1_forced (wq_qi K) 0 [some (.ref x0), some (.int x1), none, none, none] [] h C S := by
  refine wq_aload_n (pc := 0) dX1_forced_0 rfl rfl ?_
  refine gfq219 (pc := 1) rfl dX1_forced_1 V (fun r1 V => ?_)
  refine wq_ifnull (pc := 4) (tgt := 24) dX1_forced_4 rfl (fun c => ?_) (fun a2 c => ?_)
  · subst c
    have V := V.1 rfl
    refine wq_aload_n (pc := 24) dX1_forced_24 rfl rfl ?_
    refine wq_iconst (pc := 25) dX1_forced_25 gsti1 ?_
    obtain ⟨fs7, w8, V⟩ := V
    refine clq259 (pc := 26) (As := [.int (1 : Int32)]) (st := []) rfl dX1_forced_26 rfl (Nat.le_of_ble_eq_true rfl) w8 V (fun C4 S5 => wx_ki (fun y6 h3 V => ?_))
    refine wq_iret (pc := 29) dX1_forced_29 rfl ⟨_, rfl, V⟩
  · subst c
    have V := V.2 a2 rfl
    refine wq_iload_n (pc := 7) dX1_forced_7 rfl rfl ?_
    refine wq_iconst (pc := 8) dX1_forced_8 gsti0 ?_
    refine wq_aload_n (pc := 9) dX1_forced_9 rfl rfl ?_
    refine gfq219 (pc := 10) rfl dX1_forced_10 V (fun r9 V => ?_)
    obtain ⟨a10, w11, V⟩ := V
    rw [w11]
    refine gfq314 (pc := 13) rfl dX1_forced_13 V (fun y12 V => ?_)
    refine wq_iconst (pc := 16) dX1_forced_16 gsti1 ?_
    refine wq_isub (pc := 17) dX1_forced_17 ?_
    refine clq256 (pc := 18) (As := [.int x1, .int (0 : Int32), .int (y12 - (1 : Int32))]) (st := []) rfl dX1_forced_18 rfl (Nat.le_of_ble_eq_true rfl) V (fun C14 S15 => wx_ki (fun y16 h13 V => ?_))
    refine wq_if_ne (pc := 21) (tgt := 30) dX1_forced_21 rfl (fun c => ?_) (fun c => ?_)
    · have V := V.1 c
      refine wq_iconst (pc := 30) dX1_forced_30 gsti0 ?_
      refine wq_istore_n (L' := [some (.ref x0), some (.int x1), some (.int (0 : Int32)), none, none]) (pc := 31) dX1_forced_31 rfl (Nat.le_of_ble_eq_true rfl) rfl ?_
      refine wq_iconst (pc := 32) dX1_forced_32 gsti0 ?_
      refine wq_istore_n (L' := [some (.ref x0), some (.int x1), some (.int (0 : Int32)), some (.int (0 : Int32)), none]) (pc := 33) dX1_forced_33 rfl (Nat.le_of_ble_eq_true rfl) rfl ?_
      refine wq_iconst (pc := 34) dX1_forced_34 gsti0 ?_
      refine wq_istore (L' := [some (.ref x0), some (.int x1), some (.int (0 : Int32)), some (.int (0 : Int32)), some (.int (0 : Int32))]) (pc := 35) dX1_forced_35 (Nat.le_of_ble_eq_true rfl) rfl ?_
      exact wq_T.less V ⟨rfl, ⟨rfl, ⟨rfl, ⟨rfl, ⟨rfl, trivial⟩⟩⟩⟩⟩
    · have V := V.2 c
      refine wq_aload_n (pc := 24) dX1_forced_24 rfl rfl ?_
      refine wq_iconst (pc := 25) dX1_forced_25 gsti1 ?_
      obtain ⟨fs21, w22, V⟩ := V
      refine clq259 (pc := 26) (As := [.int (1 : Int32)]) (st := []) rfl dX1_forced_26 rfl (Nat.le_of_ble_eq_true rfl) w22 V (fun C18 S19 => wx_ki (fun y20 h17 V => ?_))
      refine wq_iret (pc := 29) dX1_forced_29 rfl ⟨_, rfl, V⟩
theorem vX1_forced_37 {G : wq_G} {l : Launch} {d C S : Nat} {K : Int32 → wq_H → Prop} {x0 : Nat} {x1 : Int32} {x2 : Int32} {x3 : Int32} {x4 : Int32} {h : wq_H} (V : wq_gQ h x0 [(0, 5)] (fun r1 => ∃ a2, r1 = some a2 ∧ (wq_gI h a2 [(5, 2)] (fun y4 => (((1 : Int32) <<< (y4 &&& 31)) ≤ x4 → (¬ x2 = 0 → (x2 = 0 → (x3 = 0 → ∃ fs9 : List Value, h x0 = some (.inr (0, fs9)) ∧ (wq_ci G l d C S mX1_well [.ref x0, .int (0 : Int32)] h (fun y8 h5 C6 S7 => K y8 h5))) ∧ (¬ x3 = 0 → ∃ fs15 : List Value, h x0 = some (.inr (0, fs15)) ∧ (wq_ci G l d C S mX1_well [.ref x0, .int (1 : Int32)] h (fun y14 h11 C12 S13 => K y14 h11)))) ∧ (¬ x2 = 0 → (x3 = 0 → (x3 = 0 → ∃ fs21 : List Value, h x0 = some (.inr (0, fs21)) ∧ (wq_ci G l d C S mX1_well [.ref x0, .int (0 : Int32)] h (fun y20 h17 C18 S19 => K y20 h17))) ∧ (¬ x3 = 0 → ∃ fs27 : List Value, h x0 = some (.inr (0, fs27)) ∧ (wq_ci G l d C S mX1_well [.ref x0, .int (1 : Int32)] h (fun y26 h23 C24 S25 => K y26 h23)))) ∧ (¬ x3 = 0 → ∃ fs33 : List Value, h x0 = some (.inr (0, fs33)) ∧ (wq_ci G l d C S mX1_well [.ref x0, .int (-2 : Int32)] h (fun y32 h29 C30 S31 => K y32 h29))))) ∧ (x2 = 0 → (¬ x3 = 0 → (x2 = 0 → (x3 = 0 → ∃ fs39 : List Value, h x0 = some (.inr (0, fs39)) ∧ (wq_ci G l d C S mX1_well [.ref x0, .int (0 : Int32)] h (fun y38 h35 C36 S37 => K y38 h35))) ∧ (¬ x3 = 0 → ∃ fs45 : List Value, h x0 = some (.inr (0, fs45)) ∧ (wq_ci G l d C S mX1_well [.ref x0, .int (1 : Int32)] h (fun y44 h41 C42 S43 => K y44 h41)))) ∧ (¬ x2 = 0 → (x3 = 0 → (x3 = 0 → ∃ fs51 : List Value, h x0 = some (.inr (0, fs51)) ∧ (wq_ci G l d C S mX1_well [.ref x0, .int (0 : Int32)] h (fun y50 h47 C48 S49 => K y50 h47))) ∧ (¬ x3 = 0 → ∃ fs57 : List Value, h x0 = some (.inr (0, fs57)) ∧ (wq_ci G l d C S mX1_well [.ref x0, .int (1 : Int32)] h (fun y56 h53 C54 S55 => K y56 h53)))) ∧ (¬ x3 = 0 → ∃ fs63 : List Value, h x0 = some (.inr (0, fs63)) ∧ (wq_ci G l d C S mX1_well [.ref x0, .int (-2 : Int32)] h (fun y62 h59 C60 S61 => K y62 h59))))) ∧ (x3 = 0 → ∃ fs69 : List Value, h x0 = some (.inr (0, fs69)) ∧ (wq_ci G l d C S mX1_refused [.ref x0, .int (6 : Int32)] h (fun y68 h65 C66 S67 => K y68 h65))))) ∧ (¬ ((1 : Int32) <<< (y4 &&& 31)) ≤ x4 → wq_gQ h x0 [(0, 5)] (fun r71 => ∃ fs76 : List Value, h x0 = some (.inr (0, fs76)) ∧ (wq_ci G l d C S mX1_allLines [.ref x0] h (fun y75 h72 C73 S74 => ∃ a78, r71 = some a78 ∧ (∃ fs84 : List Value, h72 a78 = some (.inr (5, fs84)) ∧ (wq_ci G l d C73 S74 mX6_can [.ref a78, .int y75, .int x4] h72 (fun y83 h80 C81 S82 => (¬ y83 = 0 → (¬ x2 = 0 → wq_T G l d mX1_forced (wq_qi K) 88 [some (.ref x0), some (.int x1), none, some (.int x3), some (.int x4)] [.int (1 : Int32)] h80 C81 S82) ∧ (x2 = 0 → wq_ci G l d C81 S82 mX1_has [.int x4, .int x1] h80 (fun y89 h86 C87 S88 => (¬ y89 = 0 → wq_T G l d mX1_forced (wq_qi K) 88 [some (.ref x0), some (.int x1), none, some (.int x3), some (.int x4)] [.int (0 : Int32)] h86 C87 S88) ∧ (y89 = 0 → wq_T G l d mX1_forced (wq_qi K) 88 [some (.ref x0), some (.int x1), none, some (.int x3), some (.int x4)] [.int (1 : Int32)] h86 C87 S88)))) ∧ (y83 = 0 → wq_T G l d mX1_forced (wq_qi K) 37 [some (.ref x0), some (.int x1), some (.int x2), some (.int x3), some (.int (x4 + (1 : Int32)))] [] h80 C81 S82)))))))))))) : wq_T G l d mX1_forced (wq_qi K) 37 [some (.ref x0), some (.int x1), some (.int x2), some (.int x3), some (.int x4)] [] h C S := by
  refine wq_iload (pc := 37) dX1_forced_37 rfl ?_
  refine wq_iconst (pc := 39) dX1_forced_39 gsti1 ?_
  refine wq_aload_n (pc := 40) dX1_forced_40 rfl rfl ?_
  refine gfq219 (pc := 41) rfl dX1_forced_41 V (fun r1 V => ?_)
  obtain ⟨a2, w3, V⟩ := V
  rw [w3]
  refine gfq314 (pc := 44) rfl dX1_forced_44 V (fun y4 V => ?_)
  refine wq_ishl (pc := 47) dX1_forced_47 ?_
  refine wq_icmp_ge (pc := 48) (tgt := 114) dX1_forced_48 rfl (fun c => ?_) (fun c => ?_)
  · have V := V.1 c
    refine wq_iload_n (pc := 114) dX1_forced_114 rfl rfl ?_
    refine wq_if_ne (pc := 115) (tgt := 129) dX1_forced_115 rfl (fun c => ?_) (fun c => ?_)
    · have V := V.1 c
      refine wq_aload_n (pc := 129) dX1_forced_129 rfl rfl ?_
      refine wq_iload_n (pc := 130) dX1_forced_130 rfl rfl ?_
      refine wq_if_eq (pc := 131) (tgt := 143) dX1_forced_131 rfl (fun c => ?_) (fun c => ?_)
      · have V := V.1 c
        refine wq_iload_n (pc := 143) dX1_forced_143 rfl rfl ?_
        refine wq_if_eq (pc := 144) (tgt := 151) dX1_forced_144 rfl (fun c => ?_) (fun c => ?_)
        · have V := V.1 c
          refine wq_iconst (pc := 151) dX1_forced_151 gsti0 ?_
          obtain ⟨fs9, w10, V⟩ := V
          refine clq977 (pc := 152) (As := [.int (0 : Int32)]) (st := []) rfl dX1_forced_152 rfl (Nat.le_of_ble_eq_true rfl) w10 V (fun C6 S7 => wx_ki (fun y8 h5 V => ?_))
          refine wq_iret (pc := 155) dX1_forced_155 rfl ⟨_, rfl, V⟩
        · have V := V.2 c
          refine wq_iconst (pc := 147) dX1_forced_147 gsti1 ?_
          refine wq_goto (pc := 148) (tgt := 152) dX1_forced_148 rfl ?_
          obtain ⟨fs15, w16, V⟩ := V
          refine clq977 (pc := 152) (As := [.int (1 : Int32)]) (st := []) rfl dX1_forced_152 rfl (Nat.le_of_ble_eq_true rfl) w16 V (fun C12 S13 => wx_ki (fun y14 h11 V => ?_))
          refine wq_iret (pc := 155) dX1_forced_155 rfl ⟨_, rfl, V⟩
      · have V := V.2 c
        refine wq_iload_n (pc := 134) dX1_forced_134 rfl rfl ?_
        refine wq_if_eq (pc := 135) (tgt := 143) dX1_forced_135 rfl (fun c => ?_) (fun c => ?_)
        · have V := V.1 c
          refine wq_iload_n (pc := 143) dX1_forced_143 rfl rfl ?_
          refine wq_if_eq (pc := 144) (tgt := 151) dX1_forced_144 rfl (fun c => ?_) (fun c => ?_)
          · have V := V.1 c
            refine wq_iconst (pc := 151) dX1_forced_151 gsti0 ?_
            obtain ⟨fs21, w22, V⟩ := V
            refine clq977 (pc := 152) (As := [.int (0 : Int32)]) (st := []) rfl dX1_forced_152 rfl (Nat.le_of_ble_eq_true rfl) w22 V (fun C18 S19 => wx_ki (fun y20 h17 V => ?_))
            refine wq_iret (pc := 155) dX1_forced_155 rfl ⟨_, rfl, V⟩
          · have V := V.2 c
            refine wq_iconst (pc := 147) dX1_forced_147 gsti1 ?_
            refine wq_goto (pc := 148) (tgt := 152) dX1_forced_148 rfl ?_
            obtain ⟨fs27, w28, V⟩ := V
            refine clq977 (pc := 152) (As := [.int (1 : Int32)]) (st := []) rfl dX1_forced_152 rfl (Nat.le_of_ble_eq_true rfl) w28 V (fun C24 S25 => wx_ki (fun y26 h23 V => ?_))
            refine wq_iret (pc := 155) dX1_forced_155 rfl ⟨_, rfl, V⟩
        · have V := V.2 c
          refine wq_bipush (pc := 138) dX1_forced_138 gstbm2 ?_
          refine wq_goto (pc := 140) (tgt := 152) dX1_forced_140 rfl ?_
          obtain ⟨fs33, w34, V⟩ := V
          refine clq977 (pc := 152) (As := [.int (-2 : Int32)]) (st := []) rfl dX1_forced_152 rfl (Nat.le_of_ble_eq_true rfl) w34 V (fun C30 S31 => wx_ki (fun y32 h29 V => ?_))
          refine wq_iret (pc := 155) dX1_forced_155 rfl ⟨_, rfl, V⟩
    · have V := V.2 c
      refine wq_iload_n (pc := 118) dX1_forced_118 rfl rfl ?_
      refine wq_if_ne (pc := 119) (tgt := 129) dX1_forced_119 rfl (fun c => ?_) (fun c => ?_)
      · have V := V.1 c
        refine wq_aload_n (pc := 129) dX1_forced_129 rfl rfl ?_
        refine wq_iload_n (pc := 130) dX1_forced_130 rfl rfl ?_
        refine wq_if_eq (pc := 131) (tgt := 143) dX1_forced_131 rfl (fun c => ?_) (fun c => ?_)
        · have V := V.1 c
          refine wq_iload_n (pc := 143) dX1_forced_143 rfl rfl ?_
          refine wq_if_eq (pc := 144) (tgt := 151) dX1_forced_144 rfl (fun c => ?_) (fun c => ?_)
          · have V := V.1 c
            refine wq_iconst (pc := 151) dX1_forced_151 gsti0 ?_
            obtain ⟨fs39, w40, V⟩ := V
            refine clq977 (pc := 152) (As := [.int (0 : Int32)]) (st := []) rfl dX1_forced_152 rfl (Nat.le_of_ble_eq_true rfl) w40 V (fun C36 S37 => wx_ki (fun y38 h35 V => ?_))
            refine wq_iret (pc := 155) dX1_forced_155 rfl ⟨_, rfl, V⟩
          · have V := V.2 c
            refine wq_iconst (pc := 147) dX1_forced_147 gsti1 ?_
            refine wq_goto (pc := 148) (tgt := 152) dX1_forced_148 rfl ?_
            obtain ⟨fs45, w46, V⟩ := V
            refine clq977 (pc := 152) (As := [.int (1 : Int32)]) (st := []) rfl dX1_forced_152 rfl (Nat.le_of_ble_eq_true rfl) w46 V (fun C42 S43 => wx_ki (fun y44 h41 V => ?_))
            refine wq_iret (pc := 155) dX1_forced_155 rfl ⟨_, rfl, V⟩
        · have V := V.2 c
          refine wq_iload_n (pc := 134) dX1_forced_134 rfl rfl ?_
          refine wq_if_eq (pc := 135) (tgt := 143) dX1_forced_135 rfl (fun c => ?_) (fun c => ?_)
          · have V := V.1 c
            refine wq_iload_n (pc := 143) dX1_forced_143 rfl rfl ?_
            refine wq_if_eq (pc := 144) (tgt := 151) dX1_forced_144 rfl (fun c => ?_) (fun c => ?_)
            · have V := V.1 c
              refine wq_iconst (pc := 151) dX1_forced_151 gsti0 ?_
              obtain ⟨fs51, w52, V⟩ := V
              refine clq977 (pc := 152) (As := [.int (0 : Int32)]) (st := []) rfl dX1_forced_152 rfl (Nat.le_of_ble_eq_true rfl) w52 V (fun C48 S49 => wx_ki (fun y50 h47 V => ?_))
              refine wq_iret (pc := 155) dX1_forced_155 rfl ⟨_, rfl, V⟩
            · have V := V.2 c
              refine wq_iconst (pc := 147) dX1_forced_147 gsti1 ?_
              refine wq_goto (pc := 148) (tgt := 152) dX1_forced_148 rfl ?_
              obtain ⟨fs57, w58, V⟩ := V
              refine clq977 (pc := 152) (As := [.int (1 : Int32)]) (st := []) rfl dX1_forced_152 rfl (Nat.le_of_ble_eq_true rfl) w58 V (fun C54 S55 => wx_ki (fun y56 h53 V => ?_))
              refine wq_iret (pc := 155) dX1_forced_155 rfl ⟨_, rfl, V⟩
          · have V := V.2 c
            refine wq_bipush (pc := 138) dX1_forced_138 gstbm2 ?_
            refine wq_goto (pc := 140) (tgt := 152) dX1_forced_140 rfl ?_
            obtain ⟨fs63, w64, V⟩ := V
            refine clq977 (pc := 152) (As := [.int (-2 : Int32)]) (st := []) rfl dX1_forced_152 rfl (Nat.le_of_ble_eq_true rfl) w64 V (fun C60 S61 => wx_ki (fun y62 h59 V => ?_))
            refine wq_iret (pc := 155) dX1_forced_155 rfl ⟨_, rfl, V⟩
      · have V := V.2 c
        refine wq_aload_n (pc := 122) dX1_forced_122 rfl rfl ?_
        refine wq_bipush (pc := 123) dX1_forced_123 gstb6 ?_
        obtain ⟨fs69, w70, V⟩ := V
        refine clq259 (pc := 125) (As := [.int (6 : Int32)]) (st := []) rfl dX1_forced_125 rfl (Nat.le_of_ble_eq_true rfl) w70 V (fun C66 S67 => wx_ki (fun y68 h65 V => ?_))
        refine wq_iret (pc := 128) dX1_forced_128 rfl ⟨_, rfl, V⟩
  · have V := V.2 c
    refine wq_aload_n (pc := 51) dX1_forced_51 rfl rfl ?_
    refine gfq219 (pc := 52) rfl dX1_forced_52 V (fun r71 V => ?_)
    refine wq_aload_n (pc := 55) dX1_forced_55 rfl rfl ?_
    obtain ⟨fs76, w77, V⟩ := V
    refine clq1279 (pc := 56) (As := []) (st := [va_rf r71]) rfl dX1_forced_56 rfl (by simp only [List.map_cons, List.map_nil, List.sum_cons, List.sum_nil, wq_cat1]; exact Nat.le_of_ble_eq_true rfl) w77 V (fun C73 S74 => wx_ki (fun y75 h72 V => ?_))
    refine wq_iload (pc := 59) dX1_forced_59 rfl ?_
    obtain ⟨a78, w79, V⟩ := V
    rw [w79]
    obtain ⟨fs84, w85, V⟩ := V
    refine clq1284 (pc := 61) (As := [.int y75, .int x4]) (st := []) rfl dX1_forced_61 rfl (Nat.le_of_ble_eq_true rfl) w85 V (fun C81 S82 => wx_ki (fun y83 h80 V => ?_))
    refine wq_if_ne (pc := 64) (tgt := 70) dX1_forced_64 rfl (fun c => ?_) (fun c => ?_)
    · have V := V.1 c
      refine wq_iload_n (pc := 70) dX1_forced_70 rfl rfl ?_
      refine wq_if_ne (pc := 71) (tgt := 83) dX1_forced_71 rfl (fun c => ?_) (fun c => ?_)
      · have V := V.1 c
        refine wq_iconst (pc := 83) dX1_forced_83 gsti1 ?_
        refine wq_goto (pc := 84) (tgt := 88) dX1_forced_84 rfl ?_
        exact wq_T.less V ⟨rfl, ⟨rfl, ⟨rfl, ⟨rfl, trivial⟩⟩⟩⟩
      · have V := V.2 c
        refine wq_iload (pc := 74) dX1_forced_74 rfl ?_
        refine wq_iload_n (pc := 76) dX1_forced_76 rfl rfl ?_
        refine clq1301 (pc := 77) (As := [.int x4, .int x1]) (st := []) rfl dX1_forced_77 rfl (Nat.le_of_ble_eq_true rfl) V (fun C87 S88 => wx_ki (fun y89 h86 V => ?_))
        refine wq_if_ne (pc := 80) (tgt := 87) dX1_forced_80 rfl (fun c => ?_) (fun c => ?_)
        · have V := V.1 c
          refine wq_iconst (pc := 87) dX1_forced_87 gsti0 ?_
          exact wq_T.less V ⟨rfl, ⟨rfl, ⟨rfl, ⟨rfl, trivial⟩⟩⟩⟩
        · have V := V.2 c
          refine wq_iconst (pc := 83) dX1_forced_83 gsti1 ?_
          refine wq_goto (pc := 84) (tgt := 88) dX1_forced_84 rfl ?_
          exact wq_T.less V ⟨rfl, ⟨rfl, ⟨rfl, ⟨rfl, trivial⟩⟩⟩⟩
    · have V := V.2 c
      refine wq_goto (pc := 67) (tgt := 108) dX1_forced_67 rfl ?_
      refine wq_iinc (L' := [some (.ref x0), some (.int x1), some (.int x2), some (.int x3), some (.int (x4 + (1 : Int32)))]) (pc := 108) dX1_forced_108 rfl (by rw [gsti1]) (Nat.le_of_ble_eq_true rfl) rfl ?_
      refine wq_goto (pc := 111) (tgt := 37) dX1_forced_111 rfl ?_
      exact wq_T.less V ⟨rfl, ⟨rfl, ⟨rfl, ⟨rfl, ⟨rfl, trivial⟩⟩⟩⟩⟩
theorem vX1_forced_88 {G : wq_G} {l : Launch} {d C S : Nat} {K : Int32 → wq_H → Prop} {x0 : Nat} {x1 : Int32} {x3 : Int32} {x4 : Int32} {z0 : Int32} {h : wq_H} (V : (¬ x3 = 0 → wq_T G l d mX1_forced (wq_qi K) 37 [some (.ref x0), some (.int x1), some (.int z0), some (.int (1 : Int32)), some (.int (x4 + (1 : Int32)))] [] h C S) ∧ (x3 = 0 → wq_ci G l d C S mX1_has [.int x4, .int x1] h (fun y4 h1 C2 S3 => (y4 = 0 → wq_T G l d mX1_forced (wq_qi K) 37 [some (.ref x0), some (.int x1), some (.int z0), some (.int (0 : Int32)), some (.int (x4 + (1 : Int32)))] [] h1 C2 S3) ∧ (¬ y4 = 0 → wq_T G l d mX1_forced (wq_qi K) 37 [some (.ref x0), some (.int x1), some (.int z0), some (.int (1 : Int32)), some (.int (x4 + (1 : Int32)))] [] h1 C2 S3)))) : wq_T G l d mX1_forced (wq_qi K) 88 [some (.ref x0), some (.int x1), none, some (.int x3), some (.int x4)] [.int z0] h C S := by
  refine wq_istore_n (L' := [some (.ref x0), some (.int x1), some (.int z0), some (.int x3), some (.int x4)]) (pc := 88) dX1_forced_88 rfl (Nat.le_of_ble_eq_true rfl) rfl ?_
  refine wq_iload_n (pc := 89) dX1_forced_89 rfl rfl ?_
  refine wq_if_ne (pc := 90) (tgt := 102) dX1_forced_90 rfl (fun c => ?_) (fun c => ?_)
  · have V := V.1 c
    refine wq_iconst (pc := 102) dX1_forced_102 gsti1 ?_
    refine wq_goto (pc := 103) (tgt := 107) dX1_forced_103 rfl ?_
    refine wq_istore_n (L' := [some (.ref x0), some (.int x1), some (.int z0), some (.int (1 : Int32)), some (.int x4)]) (pc := 107) dX1_forced_107 rfl (Nat.le_of_ble_eq_true rfl) rfl ?_
    refine wq_iinc (L' := [some (.ref x0), some (.int x1), some (.int z0), some (.int (1 : Int32)), some (.int (x4 + (1 : Int32)))]) (pc := 108) dX1_forced_108 rfl (by rw [gsti1]) (Nat.le_of_ble_eq_true rfl) rfl ?_
    refine wq_goto (pc := 111) (tgt := 37) dX1_forced_111 rfl ?_
    exact wq_T.less V ⟨rfl, ⟨rfl, ⟨rfl, ⟨rfl, ⟨rfl, trivial⟩⟩⟩⟩⟩
  · have V := V.2 c
    refine wq_iload (pc := 93) dX1_forced_93 rfl ?_
    refine wq_iload_n (pc := 95) dX1_forced_95 rfl rfl ?_
    refine clq1301 (pc := 96) (As := [.int x4, .int x1]) (st := []) rfl dX1_forced_96 rfl (Nat.le_of_ble_eq_true rfl) V (fun C2 S3 => wx_ki (fun y4 h1 V => ?_))
    refine wq_if_eq (pc := 99) (tgt := 106) dX1_forced_99 rfl (fun c => ?_) (fun c => ?_)
    · have V := V.1 c
      refine wq_iconst (pc := 106) dX1_forced_106 gsti0 ?_
      refine wq_istore_n (L' := [some (.ref x0), some (.int x1), some (.int z0), some (.int (0 : Int32)), some (.int x4)]) (pc := 107) dX1_forced_107 rfl (Nat.le_of_ble_eq_true rfl) rfl ?_
      refine wq_iinc (L' := [some (.ref x0), some (.int x1), some (.int z0), some (.int (0 : Int32)), some (.int (x4 + (1 : Int32)))]) (pc := 108) dX1_forced_108 rfl (by rw [gsti1]) (Nat.le_of_ble_eq_true rfl) rfl ?_
      refine wq_goto (pc := 111) (tgt := 37) dX1_forced_111 rfl ?_
      exact wq_T.less V ⟨rfl, ⟨rfl, ⟨rfl, ⟨rfl, ⟨rfl, trivial⟩⟩⟩⟩⟩
    · have V := V.2 c
      refine wq_iconst (pc := 102) dX1_forced_102 gsti1 ?_
      refine wq_goto (pc := 103) (tgt := 107) dX1_forced_103 rfl ?_
      refine wq_istore_n (L' := [some (.ref x0), some (.int x1), some (.int z0), some (.int (1 : Int32)), some (.int x4)]) (pc := 107) dX1_forced_107 rfl (Nat.le_of_ble_eq_true rfl) rfl ?_
      refine wq_iinc (L' := [some (.ref x0), some (.int x1), some (.int z0), some (.int (1 : Int32)), some (.int (x4 + (1 : Int32)))]) (pc := 108) dX1_forced_108 rfl (by rw [gsti1]) (Nat.le_of_ble_eq_true rfl) rfl ?_
      refine wq_goto (pc := 111) (tgt := 37) dX1_forced_111 rfl ?_
      exact wq_T.less V ⟨rfl, ⟨rfl, ⟨rfl, ⟨rfl, ⟨rfl, trivial⟩⟩⟩⟩⟩
theorem vX1_core_0 {G : wq_G} {l : Launch} {d C S : Nat} {K : Int32 → wq_H → Prop} {x0 : Nat} {h : wq_H} (V : wq_gQ h x0 [(0, 5)] (fun r1 => (r1 = none → ∃ fs7 : List Value, h x0 = some (.inr (0, fs7)) ∧ (wq_ci G l d C S mX1_refused [.ref x0, .int (1 : Int32)] h (fun y6 h3 C4 S5 => K y6 h3))) ∧ (∀ a2, r1 = some a2 → wq_T G l d mX1_core (wq_qi K) 18 [some (.ref x0), some (.int (-2 : Int32)), some (.int (0 : Int32))] [] h C S))) : wq_T G l d mX1_core (wq_qi K) 0 [some (.ref x0), none, none] [] h C S := by
  refine wq_aload_n (pc := 0) dX1_core_0 rfl rfl ?_
  refine gfq219 (pc := 1) rfl dX1_core_1 V (fun r1 V => ?_)
  refine wq_ifnonnull (pc := 4) (tgt := 13) dX1_core_4 rfl (fun a2 c => ?_) (fun c => ?_)
  · subst c
    have V := V.2 a2 rfl
    refine wq_bipush (pc := 13) dX1_core_13 gstbm2 ?_
    refine wq_istore_n (L' := [some (.ref x0), some (.int (-2 : Int32)), none]) (pc := 15) dX1_core_15 rfl (Nat.le_of_ble_eq_true rfl) rfl ?_
    refine wq_iconst (pc := 16) dX1_core_16 gsti0 ?_
    refine wq_istore_n (L' := [some (.ref x0), some (.int (-2 : Int32)), some (.int (0 : Int32))]) (pc := 17) dX1_core_17 rfl (Nat.le_of_ble_eq_true rfl) rfl ?_
    exact wq_T.less V ⟨rfl, ⟨rfl, ⟨rfl, trivial⟩⟩⟩
  · subst c
    have V := V.1 rfl
    refine wq_aload_n (pc := 7) dX1_core_7 rfl rfl ?_
    refine wq_iconst (pc := 8) dX1_core_8 gsti1 ?_
    obtain ⟨fs7, w8, V⟩ := V
    refine clq259 (pc := 9) (As := [.int (1 : Int32)]) (st := []) rfl dX1_core_9 rfl (Nat.le_of_ble_eq_true rfl) w8 V (fun C4 S5 => wx_ki (fun y6 h3 V => ?_))
    refine wq_iret (pc := 12) dX1_core_12 rfl ⟨_, rfl, V⟩
theorem vX1_core_18 {G : wq_G} {l : Launch} {d C S : Nat} {K : Int32 → wq_H → Prop} {x0 : Nat} {x1 : Int32} {x2 : Int32} {h : wq_H} (V : ∃ fs5 : List Value, h x0 = some (.inr (0, fs5)) ∧ (wq_ci G l d C S mX1_allLines [.ref x0] h (fun y4 h1 C2 S3 => (y4 < x2 → ∃ fs11 : List Value, h1 x0 = some (.inr (0, fs11)) ∧ (wq_ci G l d C2 S3 mX1_well [.ref x0, .int x1] h1 (fun y10 h7 C8 S9 => K y10 h7))) ∧ (¬ y4 < x2 → (x1 = (-2 : Int32) → wq_gQ h1 x0 [(0, 5)] (fun r13 => ∃ a14, r13 = some a14 ∧ (∃ fs20 : List Value, h1 a14 = some (.inr (5, fs20)) ∧ (wq_ci G l d C2 S3 mX6_can_2 [.ref a14, .int x2] h1 (fun y19 h16 C17 S18 => (¬ y19 = 0 → wq_T G l d mX1_core (wq_qi K) 18 [some (.ref x0), some (.int x1), some (.int (x2 + (1 : Int32)))] [] h16 C17 S18) ∧ (y19 = 0 → wq_T G l d mX1_core (wq_qi K) 18 [some (.ref x0), some (.int x2), some (.int (x2 + (1 : Int32)))] [] h16 C17 S18)))))) ∧ (¬ x1 = (-2 : Int32) → wq_ci G l d C2 S3 mX1_bits [.int x2] h1 (fun y25 h22 C23 S24 => wq_ci G l d C23 S24 mX1_bits [.int x1] h22 (fun y29 h26 C27 S28 => (y29 ≤ y25 → wq_T G l d mX1_core (wq_qi K) 18 [some (.ref x0), some (.int x1), some (.int (x2 + (1 : Int32)))] [] h26 C27 S28) ∧ (¬ y29 ≤ y25 → wq_gQ h26 x0 [(0, 5)] (fun r30 => ∃ a31, r30 = some a31 ∧ (∃ fs37 : List Value, h26 a31 = some (.inr (5, fs37)) ∧ (wq_ci G l d C27 S28 mX6_can_2 [.ref a31, .int x2] h26 (fun y36 h33 C34 S35 => (¬ y36 = 0 → wq_T G l d mX1_core (wq_qi K) 18 [some (.ref x0), some (.int x1), some (.int (x2 + (1 : Int32)))] [] h33 C34 S35) ∧ (y36 = 0 → wq_T G l d mX1_core (wq_qi K) 18 [some (.ref x0), some (.int x2), some (.int (x2 + (1 : Int32)))] [] h33 C34 S35))))))))))))) : wq_T G l d mX1_core (wq_qi K) 18 [some (.ref x0), some (.int x1), some (.int x2)] [] h C S := by
  refine wq_iload_n (pc := 18) dX1_core_18 rfl rfl ?_
  refine wq_aload_n (pc := 19) dX1_core_19 rfl rfl ?_
  obtain ⟨fs5, w6, V⟩ := V
  refine clq1279 (pc := 20) (As := []) (st := [.int x2]) rfl dX1_core_20 rfl (Nat.le_of_ble_eq_true rfl) w6 V (fun C2 S3 => wx_ki (fun y4 h1 V => ?_))
  refine wq_icmp_gt (pc := 23) (tgt := 62) dX1_core_23 rfl (fun c => ?_) (fun c => ?_)
  · have V := V.1 c
    refine wq_aload_n (pc := 62) dX1_core_62 rfl rfl ?_
    refine wq_iload_n (pc := 63) dX1_core_63 rfl rfl ?_
    obtain ⟨fs11, w12, V⟩ := V
    refine clq977 (pc := 64) (As := [.int x1]) (st := []) rfl dX1_core_64 rfl (Nat.le_of_ble_eq_true rfl) w12 V (fun C8 S9 => wx_ki (fun y10 h7 V => ?_))
    refine wq_iret (pc := 67) dX1_core_67 rfl ⟨_, rfl, V⟩
  · have V := V.2 c
    refine wq_iload_n (pc := 26) dX1_core_26 rfl rfl ?_
    refine wq_bipush (pc := 27) dX1_core_27 gstbm2 ?_
    refine wq_icmp_eq (pc := 29) (tgt := 43) dX1_core_29 rfl (fun c => ?_) (fun c => ?_)
    · have V := V.1 c
      refine wq_aload_n (pc := 43) dX1_core_43 rfl rfl ?_
      refine gfq219 (pc := 44) rfl dX1_core_44 V (fun r13 V => ?_)
      refine wq_iload_n (pc := 47) dX1_core_47 rfl rfl ?_
      obtain ⟨a14, w15, V⟩ := V
      rw [w15]
      obtain ⟨fs20, w21, V⟩ := V
      refine clq1307 (pc := 48) (As := [.int x2]) (st := []) rfl dX1_core_48 rfl (Nat.le_of_ble_eq_true rfl) w21 V (fun C17 S18 => wx_ki (fun y19 h16 V => ?_))
      refine wq_if_ne (pc := 51) (tgt := 56) dX1_core_51 rfl (fun c => ?_) (fun c => ?_)
      · have V := V.1 c
        refine wq_iinc (L' := [some (.ref x0), some (.int x1), some (.int (x2 + (1 : Int32)))]) (pc := 56) dX1_core_56 rfl (by rw [gsti1]) (Nat.le_of_ble_eq_true rfl) rfl ?_
        refine wq_goto (pc := 59) (tgt := 18) dX1_core_59 rfl ?_
        exact wq_T.less V ⟨rfl, ⟨rfl, ⟨rfl, trivial⟩⟩⟩
      · have V := V.2 c
        refine wq_iload_n (pc := 54) dX1_core_54 rfl rfl ?_
        refine wq_istore_n (L' := [some (.ref x0), some (.int x2), some (.int x2)]) (pc := 55) dX1_core_55 rfl (Nat.le_of_ble_eq_true rfl) rfl ?_
        refine wq_iinc (L' := [some (.ref x0), some (.int x2), some (.int (x2 + (1 : Int32)))]) (pc := 56) dX1_core_56 rfl (by rw [gsti1]) (Nat.le_of_ble_eq_true rfl) rfl ?_
        refine wq_goto (pc := 59) (tgt := 18) dX1_core_59 rfl ?_
        exact wq_T.less V ⟨rfl, ⟨rfl, ⟨rfl, trivial⟩⟩⟩
    · have V := V.2 c
      refine wq_iload_n (pc := 32) dX1_core_32 rfl rfl ?_
      refine clq1306 (pc := 33) (As := [.int x2]) (st := []) rfl dX1_core_33 rfl (Nat.le_of_ble_eq_true rfl) V (fun C23 S24 => wx_ki (fun y25 h22 V => ?_))
      refine wq_iload_n (pc := 36) dX1_core_36 rfl rfl ?_
      refine clq1306 (pc := 37) (As := [.int x1]) (st := [.int y25]) rfl dX1_core_37 rfl (Nat.le_of_ble_eq_true rfl) V (fun C27 S28 => wx_ki (fun y29 h26 V => ?_))
      refine wq_icmp_ge (pc := 40) (tgt := 56) dX1_core_40 rfl (fun c => ?_) (fun c => ?_)
      · have V := V.1 c
        refine wq_iinc (L' := [some (.ref x0), some (.int x1), some (.int (x2 + (1 : Int32)))]) (pc := 56) dX1_core_56 rfl (by rw [gsti1]) (Nat.le_of_ble_eq_true rfl) rfl ?_
        refine wq_goto (pc := 59) (tgt := 18) dX1_core_59 rfl ?_
        exact wq_T.less V ⟨rfl, ⟨rfl, ⟨rfl, trivial⟩⟩⟩
      · have V := V.2 c
        refine wq_aload_n (pc := 43) dX1_core_43 rfl rfl ?_
        refine gfq219 (pc := 44) rfl dX1_core_44 V (fun r30 V => ?_)
        refine wq_iload_n (pc := 47) dX1_core_47 rfl rfl ?_
        obtain ⟨a31, w32, V⟩ := V
        rw [w32]
        obtain ⟨fs37, w38, V⟩ := V
        refine clq1307 (pc := 48) (As := [.int x2]) (st := []) rfl dX1_core_48 rfl (Nat.le_of_ble_eq_true rfl) w38 V (fun C34 S35 => wx_ki (fun y36 h33 V => ?_))
        refine wq_if_ne (pc := 51) (tgt := 56) dX1_core_51 rfl (fun c => ?_) (fun c => ?_)
        · have V := V.1 c
          refine wq_iinc (L' := [some (.ref x0), some (.int x1), some (.int (x2 + (1 : Int32)))]) (pc := 56) dX1_core_56 rfl (by rw [gsti1]) (Nat.le_of_ble_eq_true rfl) rfl ?_
          refine wq_goto (pc := 59) (tgt := 18) dX1_core_59 rfl ?_
          exact wq_T.less V ⟨rfl, ⟨rfl, ⟨rfl, trivial⟩⟩⟩
        · have V := V.2 c
          refine wq_iload_n (pc := 54) dX1_core_54 rfl rfl ?_
          refine wq_istore_n (L' := [some (.ref x0), some (.int x2), some (.int x2)]) (pc := 55) dX1_core_55 rfl (Nat.le_of_ble_eq_true rfl) rfl ?_
          refine wq_iinc (L' := [some (.ref x0), some (.int x2), some (.int (x2 + (1 : Int32)))]) (pc := 56) dX1_core_56 rfl (by rw [gsti1]) (Nat.le_of_ble_eq_true rfl) rfl ?_
          refine wq_goto (pc := 59) (tgt := 18) dX1_core_59 rfl ?_
          exact wq_T.less V ⟨rfl, ⟨rfl, ⟨rfl, trivial⟩⟩⟩
theorem vX1_can_0 {G : wq_G} {l : Launch} {d C S : Nat} {K : Int32 → wq_H → Prop} {x0 : Nat} {x1 : Int32} {h : wq_H} (V : wq_gQ h x0 [(0, 5)] (fun r1 => (r1 = none → ∃ fs7 : List Value, h x0 = some (.inr (0, fs7)) ∧ (wq_ci G l d C S mX1_refused [.ref x0, .int (1 : Int32)] h (fun y6 h3 C4 S5 => K y6 h3))) ∧ (∀ a2, r1 = some a2 → ∃ fs13 : List Value, h x0 = some (.inr (0, fs13)) ∧ (wq_ci G l d C S mX1_allLines [.ref x0] h (fun y12 h9 C10 S11 => wq_ci G l d C10 S11 mX1_in [.int x1, .int (0 : Int32), .int y12] h9 (fun y18 h15 C16 S17 => (y18 = 0 → ∃ fs23 : List Value, h15 x0 = some (.inr (0, fs23)) ∧ (wq_ci G l d C16 S17 mX1_refused [.ref x0, .int (2 : Int32)] h15 (fun y22 h19 C20 S21 => K y22 h19))) ∧ (¬ y18 = 0 → wq_gQ h15 x0 [(0, 5)] (fun r25 => ∃ a26, r25 = some a26 ∧ (∃ fs32 : List Value, h15 a26 = some (.inr (5, fs32)) ∧ (wq_ci G l d C16 S17 mX6_can_2 [.ref a26, .int x1] h15 (fun y31 h28 C29 S30 => (y31 = 0 → ∃ fs38 : List Value, h28 x0 = some (.inr (0, fs38)) ∧ (wq_ci G l d C29 S30 mX1_well [.ref x0, .int (0 : Int32)] h28 (fun y37 h34 C35 S36 => K y37 h34))) ∧ (¬ y31 = 0 → ∃ fs44 : List Value, h28 x0 = some (.inr (0, fs44)) ∧ (wq_ci G l d C29 S30 mX1_well [.ref x0, .int (1 : Int32)] h28 (fun y43 h40 C41 S42 => K y43 h40)))))))))))))) : wq_T G l d mX1_can (wq_qi K) 0 [some (.ref x0), some (.int x1)] [] h C S := by
  refine wq_aload_n (pc := 0) dX1_can_0 rfl rfl ?_
  refine gfq219 (pc := 1) rfl dX1_can_1 V (fun r1 V => ?_)
  refine wq_ifnonnull (pc := 4) (tgt := 13) dX1_can_4 rfl (fun a2 c => ?_) (fun c => ?_)
  · subst c
    have V := V.2 a2 rfl
    refine wq_iload_n (pc := 13) dX1_can_13 rfl rfl ?_
    refine wq_iconst (pc := 14) dX1_can_14 gsti0 ?_
    refine wq_aload_n (pc := 15) dX1_can_15 rfl rfl ?_
    obtain ⟨fs13, w14, V⟩ := V
    refine clq1279 (pc := 16) (As := []) (st := [.int (0 : Int32), .int x1]) rfl dX1_can_16 rfl (Nat.le_of_ble_eq_true rfl) w14 V (fun C10 S11 => wx_ki (fun y12 h9 V => ?_))
    refine clq256 (pc := 19) (As := [.int x1, .int (0 : Int32), .int y12]) (st := []) rfl dX1_can_19 rfl (Nat.le_of_ble_eq_true rfl) V (fun C16 S17 => wx_ki (fun y18 h15 V => ?_))
    refine wq_if_eq (pc := 22) (tgt := 48) dX1_can_22 rfl (fun c => ?_) (fun c => ?_)
    · have V := V.1 c
      refine wq_aload_n (pc := 48) dX1_can_48 rfl rfl ?_
      refine wq_iconst (pc := 49) dX1_can_49 gsti2 ?_
      obtain ⟨fs23, w24, V⟩ := V
      refine clq259 (pc := 50) (As := [.int (2 : Int32)]) (st := []) rfl dX1_can_50 rfl (Nat.le_of_ble_eq_true rfl) w24 V (fun C20 S21 => wx_ki (fun y22 h19 V => ?_))
      refine wq_iret (pc := 53) dX1_can_53 rfl ⟨_, rfl, V⟩
    · have V := V.2 c
      refine wq_aload_n (pc := 25) dX1_can_25 rfl rfl ?_
      refine wq_aload_n (pc := 26) dX1_can_26 rfl rfl ?_
      refine gfq219 (pc := 27) rfl dX1_can_27 V (fun r25 V => ?_)
      refine wq_iload_n (pc := 30) dX1_can_30 rfl rfl ?_
      obtain ⟨a26, w27, V⟩ := V
      rw [w27]
      obtain ⟨fs32, w33, V⟩ := V
      refine clq1307 (pc := 31) (As := [.int x1]) (st := [.ref x0]) rfl dX1_can_31 rfl (Nat.le_of_ble_eq_true rfl) w33 V (fun C29 S30 => wx_ki (fun y31 h28 V => ?_))
      refine wq_if_eq (pc := 34) (tgt := 41) dX1_can_34 rfl (fun c => ?_) (fun c => ?_)
      · have V := V.1 c
        refine wq_iconst (pc := 41) dX1_can_41 gsti0 ?_
        obtain ⟨fs38, w39, V⟩ := V
        refine clq977 (pc := 42) (As := [.int (0 : Int32)]) (st := []) rfl dX1_can_42 rfl (Nat.le_of_ble_eq_true rfl) w39 V (fun C35 S36 => wx_ki (fun y37 h34 V => ?_))
        refine wq_goto (pc := 45) (tgt := 53) dX1_can_45 rfl ?_
        refine wq_iret (pc := 53) dX1_can_53 rfl ⟨_, rfl, V⟩
      · have V := V.2 c
        refine wq_iconst (pc := 37) dX1_can_37 gsti1 ?_
        refine wq_goto (pc := 38) (tgt := 42) dX1_can_38 rfl ?_
        obtain ⟨fs44, w45, V⟩ := V
        refine clq977 (pc := 42) (As := [.int (1 : Int32)]) (st := []) rfl dX1_can_42 rfl (Nat.le_of_ble_eq_true rfl) w45 V (fun C41 S42 => wx_ki (fun y43 h40 V => ?_))
        refine wq_goto (pc := 45) (tgt := 53) dX1_can_45 rfl ?_
        refine wq_iret (pc := 53) dX1_can_53 rfl ⟨_, rfl, V⟩
  · subst c
    have V := V.1 rfl
    refine wq_aload_n (pc := 7) dX1_can_7 rfl rfl ?_
    refine wq_iconst (pc := 8) dX1_can_8 gsti1 ?_
    obtain ⟨fs7, w8, V⟩ := V
    refine clq259 (pc := 9) (As := [.int (1 : Int32)]) (st := []) rfl dX1_can_9 rfl (Nat.le_of_ble_eq_true rfl) w8 V (fun C4 S5 => wx_ki (fun y6 h3 V => ?_))
    refine wq_iret (pc := 12) dX1_can_12 rfl ⟨_, rfl, V⟩
theorem vX1_game_0 {G : wq_G} {l : Launch} {d C S : Nat} {K : Int32 → wq_H → Prop} {x0 : Nat} {h : wq_H} (V : wq_gQ h x0 [(0, 5)] (fun r1 => (r1 = none → ∃ fs7 : List Value, h x0 = some (.inr (0, fs7)) ∧ (wq_ci G l d C S mX1_refused [.ref x0, .int (1 : Int32)] h (fun y6 h3 C4 S5 => K y6 h3))) ∧ (∀ a2, r1 = some a2 → wq_T G l d mX1_game (wq_qi K) 17 [some (.ref x0), some (.int (0 : Int32)), some (.int (0 : Int32)), none, none] [] h C S))) : wq_T G l d mX1_game (wq_qi K) 0 [some (.ref x0), none, none, none, none] [] h C S := by
  refine wq_aload_n (pc := 0) dX1_game_0 rfl rfl ?_
  refine gfq219 (pc := 1) rfl dX1_game_1 V (fun r1 V => ?_)
  refine wq_ifnonnull (pc := 4) (tgt := 13) dX1_game_4 rfl (fun a2 c => ?_) (fun c => ?_)
  · subst c
    have V := V.2 a2 rfl
    refine wq_iconst (pc := 13) dX1_game_13 gsti0 ?_
    refine wq_istore_n (L' := [some (.ref x0), some (.int (0 : Int32)), none, none, none]) (pc := 14) dX1_game_14 rfl (Nat.le_of_ble_eq_true rfl) rfl ?_
    refine wq_iconst (pc := 15) dX1_game_15 gsti0 ?_
    refine wq_istore_n (L' := [some (.ref x0), some (.int (0 : Int32)), some (.int (0 : Int32)), none, none]) (pc := 16) dX1_game_16 rfl (Nat.le_of_ble_eq_true rfl) rfl ?_
    exact wq_T.less V ⟨rfl, ⟨rfl, ⟨rfl, trivial⟩⟩⟩
  · subst c
    have V := V.1 rfl
    refine wq_aload_n (pc := 7) dX1_game_7 rfl rfl ?_
    refine wq_iconst (pc := 8) dX1_game_8 gsti1 ?_
    obtain ⟨fs7, w8, V⟩ := V
    refine clq259 (pc := 9) (As := [.int (1 : Int32)]) (st := []) rfl dX1_game_9 rfl (Nat.le_of_ble_eq_true rfl) w8 V (fun C4 S5 => wx_ki (fun y6 h3 V => ?_))
    refine wq_iret (pc := 12) dX1_game_12 rfl ⟨_, rfl, V⟩
theorem vX1_game_17 {G : wq_G} {l : Launch} {d C S : Nat} {K : Int32 → wq_H → Prop} {x0 : Nat} {x1 : Int32} {x2 : Int32} {h : wq_H} (V : wq_gQ h x0 [(0, 5)] (fun r1 => ∃ a2, r1 = some a2 ∧ (wq_gI h a2 [(5, 2)] (fun y4 => (((1 : Int32) <<< (y4 &&& 31)) ≤ x2 → ∃ fs9 : List Value, h x0 = some (.inr (0, fs9)) ∧ (wq_ci G l d C S mX1_well [.ref x0, .int x1] h (fun y8 h5 C6 S7 => K y8 h5))) ∧ (¬ ((1 : Int32) <<< (y4 &&& 31)) ≤ x2 → wq_T G l d mX1_game (wq_qi K) 35 [some (.ref x0), some (.int x1), some (.int x2), some (.int (0 : Int32)), some (.int (0 : Int32))] [] h C S))))) : wq_T G l d mX1_game (wq_qi K) 17 [some (.ref x0), some (.int x1), some (.int x2), none, none] [] h C S := by
  refine wq_iload_n (pc := 17) dX1_game_17 rfl rfl ?_
  refine wq_iconst (pc := 18) dX1_game_18 gsti1 ?_
  refine wq_aload_n (pc := 19) dX1_game_19 rfl rfl ?_
  refine gfq219 (pc := 20) rfl dX1_game_20 V (fun r1 V => ?_)
  obtain ⟨a2, w3, V⟩ := V
  rw [w3]
  refine gfq314 (pc := 23) rfl dX1_game_23 V (fun y4 V => ?_)
  refine wq_ishl (pc := 26) dX1_game_26 ?_
  refine wq_icmp_ge (pc := 27) (tgt := 98) dX1_game_27 rfl (fun c => ?_) (fun c => ?_)
  · have V := V.1 c
    refine wq_aload_n (pc := 98) dX1_game_98 rfl rfl ?_
    refine wq_iload_n (pc := 99) dX1_game_99 rfl rfl ?_
    obtain ⟨fs9, w10, V⟩ := V
    refine clq977 (pc := 100) (As := [.int x1]) (st := []) rfl dX1_game_100 rfl (Nat.le_of_ble_eq_true rfl) w10 V (fun C6 S7 => wx_ki (fun y8 h5 V => ?_))
    refine wq_iret (pc := 103) dX1_game_103 rfl ⟨_, rfl, V⟩
  · have V := V.2 c
    refine wq_iconst (pc := 30) dX1_game_30 gsti0 ?_
    refine wq_istore_n (L' := [some (.ref x0), some (.int x1), some (.int x2), some (.int (0 : Int32)), none]) (pc := 31) dX1_game_31 rfl (Nat.le_of_ble_eq_true rfl) rfl ?_
    refine wq_iconst (pc := 32) dX1_game_32 gsti0 ?_
    refine wq_istore (L' := [some (.ref x0), some (.int x1), some (.int x2), some (.int (0 : Int32)), some (.int (0 : Int32))]) (pc := 33) dX1_game_33 (Nat.le_of_ble_eq_true rfl) rfl ?_
    exact wq_T.less V ⟨rfl, ⟨rfl, ⟨rfl, ⟨rfl, ⟨rfl, trivial⟩⟩⟩⟩⟩
theorem vX1_game_35 {G : wq_G} {l : Launch} {d C S : Nat} {K : Int32 → wq_H → Prop} {x0 : Nat} {x1 : Int32} {x2 : Int32} {x3 : Int32} {x4 : Int32} {h : wq_H} (V : wq_gQ h x0 [(0, 5)] (fun r1 => ∃ a2, r1 = some a2 ∧ (wq_gR h a2 [(5, 4)] (fun a4 => ∃ fs9 : List Value, h a4 = some (.inr (16, fs9)) ∧ (wq_ci G l d C S mJ2_size [.ref a4] h (fun y8 h5 C6 S7 => (y8 ≤ x4 → wq_ci G l d C6 S7 mJ8_max [.int x1, .int x3] h5 (fun y14 h11 C12 S13 => wq_T G l d mX1_game (wq_qi K) 17 [some (.ref x0), some (.int y14), some (.int (x2 + (1 : Int32))), none, none] [] h11 C12 S13)) ∧ (¬ y8 ≤ x4 → wq_gQ h5 x0 [(0, 5)] (fun r15 => ∃ a16, r15 = some a16 ∧ (wq_gR h5 a16 [(5, 4)] (fun a18 => ∃ fs23 : List Value, h5 a18 = some (.inr (16, fs23)) ∧ (wq_cq G l d C6 S7 mJ2_get [.ref a18, .int x4] h5 (fun r22 h19 C20 S21 => wq_ct h19 r22 [10] (fun a25 => ∃ fs30 : List Value, h19 a25 = some (.inr (10, fs30)) ∧ (wq_ci G l d C20 S21 mX12_isSo [.ref a25, .int x2] h19 (fun y29 h26 C27 S28 => (y29 = 0 → wq_T G l d mX1_game (wq_qi K) 35 [some (.ref x0), some (.int x1), some (.int x2), some (.int (x3 + (0 : Int32))), some (.int (x4 + (1 : Int32)))] [] h26 C27 S28) ∧ (¬ y29 = 0 → wq_T G l d mX1_game (wq_qi K) 35 [some (.ref x0), some (.int x1), some (.int x2), some (.int (x3 + (1 : Int32))), some (.int (x4 + (1 : Int32)))] [] h26 C27 S28)))))))))))))))) : wq_T G l d mX1_game (wq_qi K) 35 [some (.ref x0), some (.int x1), some (.int x2), some (.int x3), some (.int x4)] [] h C S := by
  refine wq_iload (pc := 35) dX1_game_35 rfl ?_
  refine wq_aload_n (pc := 37) dX1_game_37 rfl rfl ?_
  refine gfq219 (pc := 38) rfl dX1_game_38 V (fun r1 V => ?_)
  obtain ⟨a2, w3, V⟩ := V
  rw [w3]
  refine gfq320 (pc := 41) rfl dX1_game_41 V (fun a4 V => ?_)
  obtain ⟨fs9, w10, V⟩ := V
  refine clq1283 (pc := 44) (As := []) (st := [.int x4]) rfl dX1_game_44 rfl (Nat.le_of_ble_eq_true rfl) w10 V (fun C6 S7 => wx_ki (fun y8 h5 V => ?_))
  refine wq_icmp_ge (pc := 47) (tgt := 86) dX1_game_47 rfl (fun c => ?_) (fun c => ?_)
  · have V := V.1 c
    refine wq_iload_n (pc := 86) dX1_game_86 rfl rfl ?_
    refine wq_iload_n (pc := 87) dX1_game_87 rfl rfl ?_
    refine clq1323 (pc := 88) (As := [.int x1, .int x3]) (st := []) rfl dX1_game_88 rfl (Nat.le_of_ble_eq_true rfl) V (fun C12 S13 => wx_ki (fun y14 h11 V => ?_))
    refine wq_istore_n (L' := [some (.ref x0), some (.int y14), some (.int x2), some (.int x3), some (.int x4)]) (pc := 91) dX1_game_91 rfl (Nat.le_of_ble_eq_true rfl) rfl ?_
    refine wq_iinc (L' := [some (.ref x0), some (.int y14), some (.int (x2 + (1 : Int32))), some (.int x3), some (.int x4)]) (pc := 92) dX1_game_92 rfl (by rw [gsti1]) (Nat.le_of_ble_eq_true rfl) rfl ?_
    refine wq_goto (pc := 95) (tgt := 17) dX1_game_95 rfl ?_
    exact wq_T.less V ⟨rfl, ⟨rfl, ⟨rfl, trivial⟩⟩⟩
  · have V := V.2 c
    refine wq_iload_n (pc := 50) dX1_game_50 rfl rfl ?_
    refine wq_aload_n (pc := 51) dX1_game_51 rfl rfl ?_
    refine gfq219 (pc := 52) rfl dX1_game_52 V (fun r15 V => ?_)
    obtain ⟨a16, w17, V⟩ := V
    rw [w17]
    refine gfq320 (pc := 55) rfl dX1_game_55 V (fun a18 V => ?_)
    refine wq_iload (pc := 58) dX1_game_58 rfl ?_
    obtain ⟨fs23, w24, V⟩ := V
    refine clq1320 (pc := 60) (As := [.int x4]) (st := [.int x3]) rfl dX1_game_60 rfl (Nat.le_of_ble_eq_true rfl) w24 V (fun C20 S21 => wx_kq (fun r22 h19 V => ?_))
    refine ctq1321 (r := r22) (pc := 63) rfl dX1_game_63 V (fun a25 V => ?_)
    refine wq_iload_n (pc := 66) dX1_game_66 rfl rfl ?_
    obtain ⟨fs30, w31, V⟩ := V
    refine clq1322 (pc := 67) (As := [.int x2]) (st := [.int x3]) rfl dX1_game_67 rfl (Nat.le_of_ble_eq_true rfl) w31 V (fun C27 S28 => wx_ki (fun y29 h26 V => ?_))
    refine wq_if_eq (pc := 70) (tgt := 77) dX1_game_70 rfl (fun c => ?_) (fun c => ?_)
    · have V := V.1 c
      refine wq_iconst (pc := 77) dX1_game_77 gsti0 ?_
      refine wq_iadd (pc := 78) dX1_game_78 ?_
      refine wq_istore_n (L' := [some (.ref x0), some (.int x1), some (.int x2), some (.int (x3 + (0 : Int32))), some (.int x4)]) (pc := 79) dX1_game_79 rfl (Nat.le_of_ble_eq_true rfl) rfl ?_
      refine wq_iinc (L' := [some (.ref x0), some (.int x1), some (.int x2), some (.int (x3 + (0 : Int32))), some (.int (x4 + (1 : Int32)))]) (pc := 80) dX1_game_80 rfl (by rw [gsti1]) (Nat.le_of_ble_eq_true rfl) rfl ?_
      refine wq_goto (pc := 83) (tgt := 35) dX1_game_83 rfl ?_
      exact wq_T.less V ⟨rfl, ⟨rfl, ⟨rfl, ⟨rfl, ⟨rfl, trivial⟩⟩⟩⟩⟩
    · have V := V.2 c
      refine wq_iconst (pc := 73) dX1_game_73 gsti1 ?_
      refine wq_goto (pc := 74) (tgt := 78) dX1_game_74 rfl ?_
      refine wq_iadd (pc := 78) dX1_game_78 ?_
      refine wq_istore_n (L' := [some (.ref x0), some (.int x1), some (.int x2), some (.int (x3 + (1 : Int32))), some (.int x4)]) (pc := 79) dX1_game_79 rfl (Nat.le_of_ble_eq_true rfl) rfl ?_
      refine wq_iinc (L' := [some (.ref x0), some (.int x1), some (.int x2), some (.int (x3 + (1 : Int32))), some (.int (x4 + (1 : Int32)))]) (pc := 80) dX1_game_80 rfl (by rw [gsti1]) (Nat.le_of_ble_eq_true rfl) rfl ?_
      refine wq_goto (pc := 83) (tgt := 35) dX1_game_83 rfl ?_
      exact wq_T.less V ⟨rfl, ⟨rfl, ⟨rfl, ⟨rfl, ⟨rfl, trivial⟩⟩⟩⟩⟩
theorem vX1_square_0 {G : wq_G} {l : Launch} {d C S : Nat} {K : Int32 → wq_H → Prop} {x0 : Nat} {x1 : Int32} {x2 : Int32} {h : wq_H} (V : ∃ fs5 : List Value, h x0 = some (.inr (0, fs5)) ∧ (wq_ci G l d C S mX1_isRay [.ref x0, .int x1] h (fun y4 h1 C2 S3 => (y4 = 0 → ∃ fs11 : List Value, h1 x0 = some (.inr (0, fs11)) ∧ (wq_ci G l d C2 S3 mX1_refused [.ref x0, .int (1 : Int32)] h1 (fun y10 h7 C8 S9 => K y10 h7))) ∧ (¬ y4 = 0 → ∃ fs17 : List Value, h1 x0 = some (.inr (0, fs17)) ∧ (wq_ci G l d C2 S3 mX1_isRay [.ref x0, .int x2] h1 (fun y16 h13 C14 S15 => (y16 = 0 → ∃ fs23 : List Value, h13 x0 = some (.inr (0, fs23)) ∧ (wq_ci G l d C14 S15 mX1_refused [.ref x0, .int (1 : Int32)] h13 (fun y22 h19 C20 S21 => K y22 h19))) ∧ (¬ y16 = 0 → (x1 = x2 → ∃ fs29 : List Value, h13 x0 = some (.inr (0, fs29)) ∧ (wq_ci G l d C14 S15 mX1_refused [.ref x0, .int (1 : Int32)] h13 (fun y28 h25 C26 S27 => K y28 h25))) ∧ (¬ x1 = x2 → wq_gQ h13 x0 [(0, 5)] (fun r31 => ∃ a32, r31 = some a32 ∧ (wq_gR h13 a32 [(5, 5)] (fun a34 => ∃ fs39 : List Value, h13 a34 = some (.inr (16, fs39)) ∧ (wq_cq G l d C14 S15 mJ2_get [.ref a34, .int x1] h13 (fun r38 h35 C36 S37 => wq_ct h35 r38 [11] (fun a41 => wq_gQ h35 x0 [(0, 5)] (fun r42 => ∃ a43, r42 = some a43 ∧ (wq_gR h35 a43 [(5, 5)] (fun a45 => ∃ fs50 : List Value, h35 a45 = some (.inr (16, fs50)) ∧ (wq_cq G l d C36 S37 mJ2_get [.ref a45, .int x2] h35 (fun r49 h46 C47 S48 => wq_ct h46 r49 [11] (fun a52 => ∃ fs57 : List Value, h46 a41 = some (.inr (11, fs57)) ∧ (wq_ci G l d C47 S48 mX13_isSquare [.ref a41, .ref a52] h46 (fun y56 h53 C54 S55 => (y56 = 0 → ∃ fs63 : List Value, h53 x0 = some (.inr (0, fs63)) ∧ (wq_ci G l d C54 S55 mX1_well [.ref x0, .int (0 : Int32)] h53 (fun y62 h59 C60 S61 => K y62 h59))) ∧ (¬ y56 = 0 → ∃ fs69 : List Value, h53 x0 = some (.inr (0, fs69)) ∧ (wq_ci G l d C54 S55 mX1_well [.ref x0, .int (1 : Int32)] h53 (fun y68 h65 C66 S67 => K y68 h65))))))))))))))))))))))))) : wq_T G l d mX1_square (wq_qi K) 0 [some (.ref x0), some (.int x1), some (.int x2)] [] h C S := by
  refine wq_aload_n (pc := 0) dX1_square_0 rfl rfl ?_
  refine wq_iload_n (pc := 1) dX1_square_1 rfl rfl ?_
  obtain ⟨fs5, w6, V⟩ := V
  refine clq1328 (pc := 2) (As := [.int x1]) (st := []) rfl dX1_square_2 rfl (Nat.le_of_ble_eq_true rfl) w6 V (fun C2 S3 => wx_ki (fun y4 h1 V => ?_))
  refine wq_if_eq (pc := 5) (tgt := 67) dX1_square_5 rfl (fun c => ?_) (fun c => ?_)
  · have V := V.1 c
    refine wq_aload_n (pc := 67) dX1_square_67 rfl rfl ?_
    refine wq_iconst (pc := 68) dX1_square_68 gsti1 ?_
    obtain ⟨fs11, w12, V⟩ := V
    refine clq259 (pc := 69) (As := [.int (1 : Int32)]) (st := []) rfl dX1_square_69 rfl (Nat.le_of_ble_eq_true rfl) w12 V (fun C8 S9 => wx_ki (fun y10 h7 V => ?_))
    refine wq_iret (pc := 72) dX1_square_72 rfl ⟨_, rfl, V⟩
  · have V := V.2 c
    refine wq_aload_n (pc := 8) dX1_square_8 rfl rfl ?_
    refine wq_iload_n (pc := 9) dX1_square_9 rfl rfl ?_
    obtain ⟨fs17, w18, V⟩ := V
    refine clq1328 (pc := 10) (As := [.int x2]) (st := []) rfl dX1_square_10 rfl (Nat.le_of_ble_eq_true rfl) w18 V (fun C14 S15 => wx_ki (fun y16 h13 V => ?_))
    refine wq_if_eq (pc := 13) (tgt := 67) dX1_square_13 rfl (fun c => ?_) (fun c => ?_)
    · have V := V.1 c
      refine wq_aload_n (pc := 67) dX1_square_67 rfl rfl ?_
      refine wq_iconst (pc := 68) dX1_square_68 gsti1 ?_
      obtain ⟨fs23, w24, V⟩ := V
      refine clq259 (pc := 69) (As := [.int (1 : Int32)]) (st := []) rfl dX1_square_69 rfl (Nat.le_of_ble_eq_true rfl) w24 V (fun C20 S21 => wx_ki (fun y22 h19 V => ?_))
      refine wq_iret (pc := 72) dX1_square_72 rfl ⟨_, rfl, V⟩
    · have V := V.2 c
      refine wq_iload_n (pc := 16) dX1_square_16 rfl rfl ?_
      refine wq_iload_n (pc := 17) dX1_square_17 rfl rfl ?_
      refine wq_icmp_eq (pc := 18) (tgt := 67) dX1_square_18 rfl (fun c => ?_) (fun c => ?_)
      · have V := V.1 c
        refine wq_aload_n (pc := 67) dX1_square_67 rfl rfl ?_
        refine wq_iconst (pc := 68) dX1_square_68 gsti1 ?_
        obtain ⟨fs29, w30, V⟩ := V
        refine clq259 (pc := 69) (As := [.int (1 : Int32)]) (st := []) rfl dX1_square_69 rfl (Nat.le_of_ble_eq_true rfl) w30 V (fun C26 S27 => wx_ki (fun y28 h25 V => ?_))
        refine wq_iret (pc := 72) dX1_square_72 rfl ⟨_, rfl, V⟩
      · have V := V.2 c
        refine wq_aload_n (pc := 21) dX1_square_21 rfl rfl ?_
        refine wq_aload_n (pc := 22) dX1_square_22 rfl rfl ?_
        refine gfq219 (pc := 23) rfl dX1_square_23 V (fun r31 V => ?_)
        obtain ⟨a32, w33, V⟩ := V
        rw [w33]
        refine gfq324 (pc := 26) rfl dX1_square_26 V (fun a34 V => ?_)
        refine wq_iload_n (pc := 29) dX1_square_29 rfl rfl ?_
        obtain ⟨fs39, w40, V⟩ := V
        refine clq1320 (pc := 30) (As := [.int x1]) (st := [.ref x0]) rfl dX1_square_30 rfl (Nat.le_of_ble_eq_true rfl) w40 V (fun C36 S37 => wx_kq (fun r38 h35 V => ?_))
        refine ctq1332 (r := r38) (pc := 33) rfl dX1_square_33 V (fun a41 V => ?_)
        refine wq_aload_n (pc := 36) dX1_square_36 rfl rfl ?_
        refine gfq219 (pc := 37) rfl dX1_square_37 V (fun r42 V => ?_)
        obtain ⟨a43, w44, V⟩ := V
        rw [w44]
        refine gfq324 (pc := 40) rfl dX1_square_40 V (fun a45 V => ?_)
        refine wq_iload_n (pc := 43) dX1_square_43 rfl rfl ?_
        obtain ⟨fs50, w51, V⟩ := V
        refine clq1320 (pc := 44) (As := [.int x2]) (st := [.ref a41, .ref x0]) rfl dX1_square_44 rfl (Nat.le_of_ble_eq_true rfl) w51 V (fun C47 S48 => wx_kq (fun r49 h46 V => ?_))
        refine ctq1332 (r := r49) (pc := 47) rfl dX1_square_47 V (fun a52 V => ?_)
        obtain ⟨fs57, w58, V⟩ := V
        refine clq1333 (pc := 50) (As := [.ref a52]) (st := [.ref x0]) rfl dX1_square_50 rfl (Nat.le_of_ble_eq_true rfl) w58 V (fun C54 S55 => wx_ki (fun y56 h53 V => ?_))
        refine wq_if_eq (pc := 53) (tgt := 60) dX1_square_53 rfl (fun c => ?_) (fun c => ?_)
        · have V := V.1 c
          refine wq_iconst (pc := 60) dX1_square_60 gsti0 ?_
          obtain ⟨fs63, w64, V⟩ := V
          refine clq977 (pc := 61) (As := [.int (0 : Int32)]) (st := []) rfl dX1_square_61 rfl (Nat.le_of_ble_eq_true rfl) w64 V (fun C60 S61 => wx_ki (fun y62 h59 V => ?_))
          refine wq_goto (pc := 64) (tgt := 72) dX1_square_64 rfl ?_
          refine wq_iret (pc := 72) dX1_square_72 rfl ⟨_, rfl, V⟩
        · have V := V.2 c
          refine wq_iconst (pc := 56) dX1_square_56 gsti1 ?_
          refine wq_goto (pc := 57) (tgt := 61) dX1_square_57 rfl ?_
          obtain ⟨fs69, w70, V⟩ := V
          refine clq977 (pc := 61) (As := [.int (1 : Int32)]) (st := []) rfl dX1_square_61 rfl (Nat.le_of_ble_eq_true rfl) w70 V (fun C66 S67 => wx_ki (fun y68 h65 V => ?_))
          refine wq_goto (pc := 64) (tgt := 72) dX1_square_64 rfl ?_
          refine wq_iret (pc := 72) dX1_square_72 rfl ⟨_, rfl, V⟩
theorem vX1_isRay_0 {G : wq_G} {l : Launch} {d C S : Nat} {K : Int32 → wq_H → Prop} {x0 : Nat} {x1 : Int32} {h : wq_H} (V : wq_gQ h x0 [(0, 5)] (fun r1 => (r1 = none → K (0 : Int32) h) ∧ (∀ a2, r1 = some a2 → wq_gQ h x0 [(0, 5)] (fun r3 => ∃ a4, r3 = some a4 ∧ (wq_gR h a4 [(5, 5)] (fun a6 => ∃ fs11 : List Value, h a6 = some (.inr (16, fs11)) ∧ (wq_ci G l d C S mJ2_size [.ref a6] h (fun y10 h7 C8 S9 => wq_ci G l d C8 S9 mX1_in [.int x1, .int (0 : Int32), .int (y10 - (1 : Int32))] h7 (fun y16 h13 C14 S15 => (y16 = 0 → K (0 : Int32) h13) ∧ (¬ y16 = 0 → K (1 : Int32) h13)))))))))) : wq_T G l d mX1_isRay (wq_qi K) 0 [some (.ref x0), some (.int x1)] [] h C S := by
  refine wq_aload_n (pc := 0) dX1_isRay_0 rfl rfl ?_
  refine gfq219 (pc := 1) rfl dX1_isRay_1 V (fun r1 V => ?_)
  refine wq_ifnull (pc := 4) (tgt := 31) dX1_isRay_4 rfl (fun c => ?_) (fun a2 c => ?_)
  · subst c
    have V := V.1 rfl
    refine wq_iconst (pc := 31) dX1_isRay_31 gsti0 ?_
    refine wq_zret (pc := 32) dX1_isRay_32 rfl gn_b0 ⟨_, rfl, V⟩
  · subst c
    have V := V.2 a2 rfl
    refine wq_iload_n (pc := 7) dX1_isRay_7 rfl rfl ?_
    refine wq_iconst (pc := 8) dX1_isRay_8 gsti0 ?_
    refine wq_aload_n (pc := 9) dX1_isRay_9 rfl rfl ?_
    refine gfq219 (pc := 10) rfl dX1_isRay_10 V (fun r3 V => ?_)
    obtain ⟨a4, w5, V⟩ := V
    rw [w5]
    refine gfq324 (pc := 13) rfl dX1_isRay_13 V (fun a6 V => ?_)
    obtain ⟨fs11, w12, V⟩ := V
    refine clq1283 (pc := 16) (As := []) (st := [.int (0 : Int32), .int x1]) rfl dX1_isRay_16 rfl (Nat.le_of_ble_eq_true rfl) w12 V (fun C8 S9 => wx_ki (fun y10 h7 V => ?_))
    refine wq_iconst (pc := 19) dX1_isRay_19 gsti1 ?_
    refine wq_isub (pc := 20) dX1_isRay_20 ?_
    refine clq256 (pc := 21) (As := [.int x1, .int (0 : Int32), .int (y10 - (1 : Int32))]) (st := []) rfl dX1_isRay_21 rfl (Nat.le_of_ble_eq_true rfl) V (fun C14 S15 => wx_ki (fun y16 h13 V => ?_))
    refine wq_if_eq (pc := 24) (tgt := 31) dX1_isRay_24 rfl (fun c => ?_) (fun c => ?_)
    · have V := V.1 c
      refine wq_iconst (pc := 31) dX1_isRay_31 gsti0 ?_
      refine wq_zret (pc := 32) dX1_isRay_32 rfl gn_b0 ⟨_, rfl, V⟩
    · have V := V.2 c
      refine wq_iconst (pc := 27) dX1_isRay_27 gsti1 ?_
      refine wq_goto (pc := 28) (tgt := 32) dX1_isRay_28 rfl ?_
      refine wq_zret (pc := 32) dX1_isRay_32 rfl gn_b1 ⟨_, rfl, V⟩
theorem vX1_corners_0 {G : wq_G} {l : Launch} {d C S : Nat} {K : Int32 → wq_H → Prop} {x0 : Nat} {h : wq_H} (V : wq_gQ h x0 [(0, 5)] (fun r1 => (r1 = none → ∃ fs7 : List Value, h x0 = some (.inr (0, fs7)) ∧ (wq_ci G l d C S mX1_refused [.ref x0, .int (1 : Int32)] h (fun y6 h3 C4 S5 => K y6 h3))) ∧ (∀ a2, r1 = some a2 → wq_no G h 13 [.int 0, .int 0, .null, .null, .int 0, .int 0] 6 C S (fun a9 h10 => wq_gQ h10 x0 [(0, 5)] (fun r11 => wq_cw G l d (C - 1) (S - 6) mX15_init [.ref a9, va_rf r11, .int (0 : Int32)] h10 (fun h12 C13 S14 => ∃ fs19 : List Value, h12 a9 = some (.inr (13, fs19)) ∧ (wq_ci G l d C13 S14 mX15_corners [.ref a9] h12 (fun y18 h15 C16 S17 => ∃ fs25 : List Value, h15 x0 = some (.inr (0, fs25)) ∧ (wq_ci G l d C16 S17 mX1_well [.ref x0, .int y18] h15 (fun y24 h21 C22 S23 => K y24 h21)))))))))) : wq_T G l d mX1_corners (wq_qi K) 0 [some (.ref x0)] [] h C S := by
  refine wq_aload_n (pc := 0) dX1_corners_0 rfl rfl ?_
  refine gfq219 (pc := 1) rfl dX1_corners_1 V (fun r1 V => ?_)
  refine wq_ifnonnull (pc := 4) (tgt := 15) dX1_corners_4 rfl (fun a2 c => ?_) (fun c => ?_)
  · subst c
    have V := V.2 a2 rfl
    refine wq_aload_n (pc := 15) dX1_corners_15 rfl rfl ?_
    refine nwq1341 (pc := 16) rfl dX1_corners_16 V (fun a9 h10 V => ?_)
    refine wq_dup (pc := 19) dX1_corners_19 rfl ?_
    refine wq_aload_n (pc := 20) dX1_corners_20 rfl rfl ?_
    refine gfq219 (pc := 21) rfl dX1_corners_21 V (fun r11 V => ?_)
    refine wq_iconst (pc := 24) dX1_corners_24 gsti0 ?_
    refine clq1343 (pc := 25) (As := [va_rf r11, .int (0 : Int32)]) (st := [.ref a9, .ref x0]) rfl dX1_corners_25 rfl (Nat.le_of_ble_eq_true rfl) V (fun C13 S14 => wx_kv (fun h12 V => ?_))
    obtain ⟨fs19, w20, V⟩ := V
    refine clq1400 (pc := 28) (As := []) (st := [.ref x0]) rfl dX1_corners_28 rfl (Nat.le_of_ble_eq_true rfl) w20 V (fun C16 S17 => wx_ki (fun y18 h15 V => ?_))
    obtain ⟨fs25, w26, V⟩ := V
    refine clq977 (pc := 31) (As := [.int y18]) (st := []) rfl dX1_corners_31 rfl (Nat.le_of_ble_eq_true rfl) w26 V (fun C22 S23 => wx_ki (fun y24 h21 V => ?_))
    refine wq_iret (pc := 34) dX1_corners_34 rfl ⟨_, rfl, V⟩
  · subst c
    have V := V.1 rfl
    refine wq_aload_n (pc := 7) dX1_corners_7 rfl rfl ?_
    refine wq_iconst (pc := 8) dX1_corners_8 gsti1 ?_
    obtain ⟨fs7, w8, V⟩ := V
    refine clq259 (pc := 9) (As := [.int (1 : Int32)]) (st := []) rfl dX1_corners_9 rfl (Nat.le_of_ble_eq_true rfl) w8 V (fun C4 S5 => wx_ki (fun y6 h3 V => ?_))
    refine wq_goto (pc := 12) (tgt := 34) dX1_corners_12 rfl ?_
    refine wq_iret (pc := 34) dX1_corners_34 rfl ⟨_, rfl, V⟩
theorem vX1_colours_0 {G : wq_G} {l : Launch} {d C S : Nat} {K : Int32 → wq_H → Prop} {x0 : Nat} {h : wq_H} (V : wq_gQ h x0 [(0, 5)] (fun r1 => (r1 = none → ∃ fs7 : List Value, h x0 = some (.inr (0, fs7)) ∧ (wq_ci G l d C S mX1_refused [.ref x0, .int (1 : Int32)] h (fun y6 h3 C4 S5 => K y6 h3))) ∧ (∀ a2, r1 = some a2 → ∃ fs13 : List Value, h x0 = some (.inr (0, fs13)) ∧ (wq_cq G l d C S mX1_coloured [.ref x0, .int (0 : Int32), .int (1 : Int32)] h (fun r12 h9 C10 S11 => ∃ a15, r12 = some a15 ∧ (wq_gI h9 a15 [(13, 4)] (fun y17 => ∃ fs22 : List Value, h9 x0 = some (.inr (0, fs22)) ∧ (wq_ci G l d C10 S11 mX1_well [.ref x0, .int y17] h9 (fun y21 h18 C19 S20 => K y21 h18))))))))) : wq_T G l d mX1_colours (wq_qi K) 0 [some (.ref x0)] [] h C S := by
  refine wq_aload_n (pc := 0) dX1_colours_0 rfl rfl ?_
  refine gfq219 (pc := 1) rfl dX1_colours_1 V (fun r1 V => ?_)
  refine wq_ifnonnull (pc := 4) (tgt := 15) dX1_colours_4 rfl (fun a2 c => ?_) (fun c => ?_)
  · subst c
    have V := V.2 a2 rfl
    refine wq_aload_n (pc := 15) dX1_colours_15 rfl rfl ?_
    refine wq_aload_n (pc := 16) dX1_colours_16 rfl rfl ?_
    refine wq_iconst (pc := 17) dX1_colours_17 gsti0 ?_
    refine wq_iconst (pc := 18) dX1_colours_18 gsti1 ?_
    obtain ⟨fs13, w14, V⟩ := V
    refine clq1408 (pc := 19) (As := [.int (0 : Int32), .int (1 : Int32)]) (st := [.ref x0]) rfl dX1_colours_19 rfl (Nat.le_of_ble_eq_true rfl) w14 V (fun C10 S11 => wx_kq (fun r12 h9 V => ?_))
    obtain ⟨a15, w16, V⟩ := V
    rw [w16]
    refine gfq1384 (pc := 22) rfl dX1_colours_22 V (fun y17 V => ?_)
    obtain ⟨fs22, w23, V⟩ := V
    refine clq977 (pc := 25) (As := [.int y17]) (st := []) rfl dX1_colours_25 rfl (Nat.le_of_ble_eq_true rfl) w23 V (fun C19 S20 => wx_ki (fun y21 h18 V => ?_))
    refine wq_iret (pc := 28) dX1_colours_28 rfl ⟨_, rfl, V⟩
  · subst c
    have V := V.1 rfl
    refine wq_aload_n (pc := 7) dX1_colours_7 rfl rfl ?_
    refine wq_iconst (pc := 8) dX1_colours_8 gsti1 ?_
    obtain ⟨fs7, w8, V⟩ := V
    refine clq259 (pc := 9) (As := [.int (1 : Int32)]) (st := []) rfl dX1_colours_9 rfl (Nat.le_of_ble_eq_true rfl) w8 V (fun C4 S5 => wx_ki (fun y6 h3 V => ?_))
    refine wq_goto (pc := 12) (tgt := 28) dX1_colours_12 rfl ?_
    refine wq_iret (pc := 28) dX1_colours_28 rfl ⟨_, rfl, V⟩
theorem vX1_coloured_0 {G : wq_G} {l : Launch} {d C S : Nat} {K : Option Nat → wq_H → Prop} {x0 : Nat} {x1 : Int32} {x2 : Int32} {h : wq_H} (V : wq_no G h 13 [.int 0, .int 0, .null, .null, .int 0, .int 0] 6 C S (fun a1 h2 => wq_gQ h2 x0 [(0, 5)] (fun r3 => wq_cw G l d (C - 1) (S - 6) mX15_init [.ref a1, va_rf r3, .int x1] h2 (fun h4 C5 S6 => ∃ fs10 : List Value, h4 a1 = some (.inr (13, fs10)) ∧ (wq_cw G l d C5 S6 mX15_counts [.ref a1, .int (0 : Int32), .int (0 : Int32), .int x2] h4 (fun h7 C8 S9 => K (some a1) h7)))))) : wq_T G l d mX1_coloured (wq_qq K) 0 [some (.ref x0), some (.int x1), some (.int x2), none] [] h C S := by
  refine nwq1341 (pc := 0) rfl dX1_coloured_0 V (fun a1 h2 V => ?_)
  refine wq_dup (pc := 3) dX1_coloured_3 rfl ?_
  refine wq_aload_n (pc := 4) dX1_coloured_4 rfl rfl ?_
  refine gfq219 (pc := 5) rfl dX1_coloured_5 V (fun r3 V => ?_)
  refine wq_iload_n (pc := 8) dX1_coloured_8 rfl rfl ?_
  refine clq1343 (pc := 9) (As := [va_rf r3, .int x1]) (st := [.ref a1]) rfl dX1_coloured_9 rfl (Nat.le_of_ble_eq_true rfl) V (fun C5 S6 => wx_kv (fun h4 V => ?_))
  refine wq_astore_n (L' := [some (.ref x0), some (.int x1), some (.int x2), some (.ref a1)]) (pc := 12) dX1_coloured_12 rfl (Nat.le_of_ble_eq_true rfl) rfl ?_
  refine wq_aload_n (pc := 13) dX1_coloured_13 rfl rfl ?_
  refine wq_iconst (pc := 14) dX1_coloured_14 gsti0 ?_
  refine wq_iconst (pc := 15) dX1_coloured_15 gsti0 ?_
  refine wq_iload_n (pc := 16) dX1_coloured_16 rfl rfl ?_
  obtain ⟨fs10, w11, V⟩ := V
  refine clq1412 (pc := 17) (As := [.int (0 : Int32), .int (0 : Int32), .int x2]) (st := []) rfl dX1_coloured_17 rfl (Nat.le_of_ble_eq_true rfl) w11 V (fun C8 S9 => wx_kv (fun h7 V => ?_))
  refine wq_aload_n (pc := 20) dX1_coloured_20 rfl rfl ?_
  refine wq_aret (r := (some a1)) (pc := 21) dX1_coloured_21 rfl rfl ⟨_, rfl, V⟩
theorem vX1_ones_0 {G : wq_G} {l : Launch} {d C S : Nat} {K : Int32 → wq_H → Prop} {x0 : Nat} {h : wq_H} (V : wq_gQ h x0 [(0, 5)] (fun r1 => (r1 = none → ∃ fs7 : List Value, h x0 = some (.inr (0, fs7)) ∧ (wq_ci G l d C S mX1_refused [.ref x0, .int (1 : Int32)] h (fun y6 h3 C4 S5 => K y6 h3))) ∧ (∀ a2, r1 = some a2 → ∃ fs13 : List Value, h x0 = some (.inr (0, fs13)) ∧ (wq_cq G l d C S mX1_coloured [.ref x0, .int (0 : Int32), .int (1 : Int32)] h (fun r12 h9 C10 S11 => ∃ a15, r12 = some a15 ∧ (wq_gI h9 a15 [(13, 5)] (fun y17 => (¬ y17 = (-1 : Int32) → ∃ fs22 : List Value, h9 x0 = some (.inr (0, fs22)) ∧ (wq_ci G l d C10 S11 mX1_well [.ref x0, .int y17] h9 (fun y21 h18 C19 S20 => K y21 h18))) ∧ (y17 = (-1 : Int32) → ∃ fs28 : List Value, h9 x0 = some (.inr (0, fs28)) ∧ (wq_ci G l d C10 S11 mX1_refused [.ref x0, .int (6 : Int32)] h9 (fun y27 h24 C25 S26 => K y27 h24)))))))))) : wq_T G l d mX1_ones (wq_qi K) 0 [some (.ref x0), none] [] h C S := by
  refine wq_aload_n (pc := 0) dX1_ones_0 rfl rfl ?_
  refine gfq219 (pc := 1) rfl dX1_ones_1 V (fun r1 V => ?_)
  refine wq_ifnonnull (pc := 4) (tgt := 13) dX1_ones_4 rfl (fun a2 c => ?_) (fun c => ?_)
  · subst c
    have V := V.2 a2 rfl
    refine wq_aload_n (pc := 13) dX1_ones_13 rfl rfl ?_
    refine wq_iconst (pc := 14) dX1_ones_14 gsti0 ?_
    refine wq_iconst (pc := 15) dX1_ones_15 gsti1 ?_
    obtain ⟨fs13, w14, V⟩ := V
    refine clq1408 (pc := 16) (As := [.int (0 : Int32), .int (1 : Int32)]) (st := []) rfl dX1_ones_16 rfl (Nat.le_of_ble_eq_true rfl) w14 V (fun C10 S11 => wx_kq (fun r12 h9 V => ?_))
    obtain ⟨a15, w16, V⟩ := V
    rw [w16]
    refine gfq1386 (pc := 19) rfl dX1_ones_19 V (fun y17 V => ?_)
    refine wq_istore_n (L' := [some (.ref x0), some (.int y17)]) (pc := 22) dX1_ones_22 rfl (Nat.le_of_ble_eq_true rfl) rfl ?_
    refine wq_iload_n (pc := 23) dX1_ones_23 rfl rfl ?_
    refine wq_iconst (pc := 24) dX1_ones_24 gstim1 ?_
    refine wq_icmp_ne (pc := 25) (tgt := 37) dX1_ones_25 rfl (fun c => ?_) (fun c => ?_)
    · have V := V.1 c
      refine wq_aload_n (pc := 37) dX1_ones_37 rfl rfl ?_
      refine wq_iload_n (pc := 38) dX1_ones_38 rfl rfl ?_
      obtain ⟨fs22, w23, V⟩ := V
      refine clq977 (pc := 39) (As := [.int y17]) (st := []) rfl dX1_ones_39 rfl (Nat.le_of_ble_eq_true rfl) w23 V (fun C19 S20 => wx_ki (fun y21 h18 V => ?_))
      refine wq_iret (pc := 42) dX1_ones_42 rfl ⟨_, rfl, V⟩
    · have V := V.2 c
      refine wq_aload_n (pc := 28) dX1_ones_28 rfl rfl ?_
      refine wq_bipush (pc := 29) dX1_ones_29 gstb6 ?_
      obtain ⟨fs28, w29, V⟩ := V
      refine clq259 (pc := 31) (As := [.int (6 : Int32)]) (st := []) rfl dX1_ones_31 rfl (Nat.le_of_ble_eq_true rfl) w29 V (fun C25 S26 => wx_ki (fun y27 h24 V => ?_))
      refine wq_goto (pc := 34) (tgt := 42) dX1_ones_34 rfl ?_
      refine wq_iret (pc := 42) dX1_ones_42 rfl ⟨_, rfl, V⟩
  · subst c
    have V := V.1 rfl
    refine wq_aload_n (pc := 7) dX1_ones_7 rfl rfl ?_
    refine wq_iconst (pc := 8) dX1_ones_8 gsti1 ?_
    obtain ⟨fs7, w8, V⟩ := V
    refine clq259 (pc := 9) (As := [.int (1 : Int32)]) (st := []) rfl dX1_ones_9 rfl (Nat.le_of_ble_eq_true rfl) w8 V (fun C4 S5 => wx_ki (fun y6 h3 V => ?_))
    refine wq_iret (pc := 12) dX1_ones_12 rfl ⟨_, rfl, V⟩
theorem vX1_spare_0 {G : wq_G} {l : Launch} {d C S : Nat} {K : Int32 → wq_H → Prop} {x0 : Nat} {h : wq_H} (V : wq_gQ h x0 [(0, 5)] (fun r1 => (r1 = none → ∃ fs7 : List Value, h x0 = some (.inr (0, fs7)) ∧ (wq_ci G l d C S mX1_refused [.ref x0, .int (1 : Int32)] h (fun y6 h3 C4 S5 => K y6 h3))) ∧ (∀ a2, r1 = some a2 → ∃ fs13 : List Value, h x0 = some (.inr (0, fs13)) ∧ (wq_cq G l d C S mX1_coloured [.ref x0, .int (0 : Int32), .int (0 : Int32)] h (fun r12 h9 C10 S11 => ∃ a15, r12 = some a15 ∧ (wq_gI h9 a15 [(13, 4)] (fun y17 => (y17 ≤ 0 → wq_T G l d mX1_spare (wq_qi K) 35 [some (.ref x0), some (.int (0 : Int32)), some (.int (0 : Int32))] [] h9 C10 S11) ∧ (¬ y17 ≤ 0 → ∃ fs22 : List Value, h9 x0 = some (.inr (0, fs22)) ∧ (wq_ci G l d C10 S11 mX1_well [.ref x0, .int (0 : Int32)] h9 (fun y21 h18 C19 S20 => K y21 h18)))))))))) : wq_T G l d mX1_spare (wq_qi K) 0 [some (.ref x0), none, none] [] h C S := by
  refine wq_aload_n (pc := 0) dX1_spare_0 rfl rfl ?_
  refine gfq219 (pc := 1) rfl dX1_spare_1 V (fun r1 V => ?_)
  refine wq_ifnonnull (pc := 4) (tgt := 13) dX1_spare_4 rfl (fun a2 c => ?_) (fun c => ?_)
  · subst c
    have V := V.2 a2 rfl
    refine wq_iconst (pc := 13) dX1_spare_13 gsti0 ?_
    refine wq_istore_n (L' := [some (.ref x0), some (.int (0 : Int32)), none]) (pc := 14) dX1_spare_14 rfl (Nat.le_of_ble_eq_true rfl) rfl ?_
    refine wq_aload_n (pc := 15) dX1_spare_15 rfl rfl ?_
    refine wq_iconst (pc := 16) dX1_spare_16 gsti0 ?_
    refine wq_iconst (pc := 17) dX1_spare_17 gsti0 ?_
    obtain ⟨fs13, w14, V⟩ := V
    refine clq1408 (pc := 18) (As := [.int (0 : Int32), .int (0 : Int32)]) (st := []) rfl dX1_spare_18 rfl (Nat.le_of_ble_eq_true rfl) w14 V (fun C10 S11 => wx_kq (fun r12 h9 V => ?_))
    obtain ⟨a15, w16, V⟩ := V
    rw [w16]
    refine gfq1384 (pc := 21) rfl dX1_spare_21 V (fun y17 V => ?_)
    refine wq_if_le (pc := 24) (tgt := 33) dX1_spare_24 rfl (fun c => ?_) (fun c => ?_)
    · have V := V.1 c
      refine wq_iconst (pc := 33) dX1_spare_33 gsti0 ?_
      refine wq_istore_n (L' := [some (.ref x0), some (.int (0 : Int32)), some (.int (0 : Int32))]) (pc := 34) dX1_spare_34 rfl (Nat.le_of_ble_eq_true rfl) rfl ?_
      exact wq_T.less V ⟨rfl, ⟨rfl, ⟨rfl, trivial⟩⟩⟩
    · have V := V.2 c
      refine wq_aload_n (pc := 27) dX1_spare_27 rfl rfl ?_
      refine wq_iconst (pc := 28) dX1_spare_28 gsti0 ?_
      obtain ⟨fs22, w23, V⟩ := V
      refine clq977 (pc := 29) (As := [.int (0 : Int32)]) (st := []) rfl dX1_spare_29 rfl (Nat.le_of_ble_eq_true rfl) w23 V (fun C19 S20 => wx_ki (fun y21 h18 V => ?_))
      refine wq_iret (pc := 32) dX1_spare_32 rfl ⟨_, rfl, V⟩
  · subst c
    have V := V.1 rfl
    refine wq_aload_n (pc := 7) dX1_spare_7 rfl rfl ?_
    refine wq_iconst (pc := 8) dX1_spare_8 gsti1 ?_
    obtain ⟨fs7, w8, V⟩ := V
    refine clq259 (pc := 9) (As := [.int (1 : Int32)]) (st := []) rfl dX1_spare_9 rfl (Nat.le_of_ble_eq_true rfl) w8 V (fun C4 S5 => wx_ki (fun y6 h3 V => ?_))
    refine wq_iret (pc := 12) dX1_spare_12 rfl ⟨_, rfl, V⟩
theorem vX1_spare_35 {G : wq_G} {l : Launch} {d C S : Nat} {K : Int32 → wq_H → Prop} {x0 : Nat} {x1 : Int32} {x2 : Int32} {h : wq_H} (V : wq_gQ h x0 [(0, 5)] (fun r1 => ∃ a2, r1 = some a2 ∧ (wq_gR h a2 [(5, 5)] (fun a4 => ∃ fs9 : List Value, h a4 = some (.inr (16, fs9)) ∧ (wq_ci G l d C S mJ2_size [.ref a4] h (fun y8 h5 C6 S7 => (y8 ≤ x2 → ∃ fs15 : List Value, h5 x0 = some (.inr (0, fs15)) ∧ (wq_ci G l d C6 S7 mX1_well [.ref x0, .int x1] h5 (fun y14 h11 C12 S13 => K y14 h11))) ∧ (¬ y8 ≤ x2 → ∃ fs21 : List Value, h5 x0 = some (.inr (0, fs21)) ∧ (wq_cq G l d C6 S7 mX1_coloured [.ref x0, .int ((1 : Int32) <<< (x2 &&& 31)), .int (0 : Int32)] h5 (fun r20 h17 C18 S19 => ∃ a23, r20 = some a23 ∧ (wq_gI h17 a23 [(13, 4)] (fun y25 => (¬ y25 = 0 → wq_T G l d mX1_spare (wq_qi K) 35 [some (.ref x0), some (.int (x1 ||| (0 : Int32))), some (.int (x2 + (1 : Int32)))] [] h17 C18 S19) ∧ (y25 = 0 → wq_T G l d mX1_spare (wq_qi K) 35 [some (.ref x0), some (.int (x1 ||| ((1 : Int32) <<< (x2 &&& 31)))), some (.int (x2 + (1 : Int32)))] [] h17 C18 S19)))))))))))) : wq_T G l d mX1_spare (wq_qi K) 35 [some (.ref x0), some (.int x1), some (.int x2)] [] h C S := by
  refine wq_iload_n (pc := 35) dX1_spare_35 rfl rfl ?_
  refine wq_aload_n (pc := 36) dX1_spare_36 rfl rfl ?_
  refine gfq219 (pc := 37) rfl dX1_spare_37 V (fun r1 V => ?_)
  obtain ⟨a2, w3, V⟩ := V
  rw [w3]
  refine gfq324 (pc := 40) rfl dX1_spare_40 V (fun a4 V => ?_)
  obtain ⟨fs9, w10, V⟩ := V
  refine clq1283 (pc := 43) (As := []) (st := [.int x2]) rfl dX1_spare_43 rfl (Nat.le_of_ble_eq_true rfl) w10 V (fun C6 S7 => wx_ki (fun y8 h5 V => ?_))
  refine wq_icmp_ge (pc := 46) (tgt := 79) dX1_spare_46 rfl (fun c => ?_) (fun c => ?_)
  · have V := V.1 c
    refine wq_aload_n (pc := 79) dX1_spare_79 rfl rfl ?_
    refine wq_iload_n (pc := 80) dX1_spare_80 rfl rfl ?_
    obtain ⟨fs15, w16, V⟩ := V
    refine clq977 (pc := 81) (As := [.int x1]) (st := []) rfl dX1_spare_81 rfl (Nat.le_of_ble_eq_true rfl) w16 V (fun C12 S13 => wx_ki (fun y14 h11 V => ?_))
    refine wq_iret (pc := 84) dX1_spare_84 rfl ⟨_, rfl, V⟩
  · have V := V.2 c
    refine wq_iload_n (pc := 49) dX1_spare_49 rfl rfl ?_
    refine wq_aload_n (pc := 50) dX1_spare_50 rfl rfl ?_
    refine wq_iconst (pc := 51) dX1_spare_51 gsti1 ?_
    refine wq_iload_n (pc := 52) dX1_spare_52 rfl rfl ?_
    refine wq_ishl (pc := 53) dX1_spare_53 ?_
    refine wq_iconst (pc := 54) dX1_spare_54 gsti0 ?_
    obtain ⟨fs21, w22, V⟩ := V
    refine clq1408 (pc := 55) (As := [.int ((1 : Int32) <<< (x2 &&& 31)), .int (0 : Int32)]) (st := [.int x1]) rfl dX1_spare_55 rfl (Nat.le_of_ble_eq_true rfl) w22 V (fun C18 S19 => wx_kq (fun r20 h17 V => ?_))
    obtain ⟨a23, w24, V⟩ := V
    rw [w24]
    refine gfq1384 (pc := 58) rfl dX1_spare_58 V (fun y25 V => ?_)
    refine wq_if_ne (pc := 61) (tgt := 70) dX1_spare_61 rfl (fun c => ?_) (fun c => ?_)
    · have V := V.1 c
      refine wq_iconst (pc := 70) dX1_spare_70 gsti0 ?_
      refine wq_ior (pc := 71) dX1_spare_71 ?_
      refine wq_istore_n (L' := [some (.ref x0), some (.int (x1 ||| (0 : Int32))), some (.int x2)]) (pc := 72) dX1_spare_72 rfl (Nat.le_of_ble_eq_true rfl) rfl ?_
      refine wq_iinc (L' := [some (.ref x0), some (.int (x1 ||| (0 : Int32))), some (.int (x2 + (1 : Int32)))]) (pc := 73) dX1_spare_73 rfl (by rw [gsti1]) (Nat.le_of_ble_eq_true rfl) rfl ?_
      refine wq_goto (pc := 76) (tgt := 35) dX1_spare_76 rfl ?_
      exact wq_T.less V ⟨rfl, ⟨rfl, ⟨rfl, trivial⟩⟩⟩
    · have V := V.2 c
      refine wq_iconst (pc := 64) dX1_spare_64 gsti1 ?_
      refine wq_iload_n (pc := 65) dX1_spare_65 rfl rfl ?_
      refine wq_ishl (pc := 66) dX1_spare_66 ?_
      refine wq_goto (pc := 67) (tgt := 71) dX1_spare_67 rfl ?_
      refine wq_ior (pc := 71) dX1_spare_71 ?_
      refine wq_istore_n (L' := [some (.ref x0), some (.int (x1 ||| ((1 : Int32) <<< (x2 &&& 31)))), some (.int x2)]) (pc := 72) dX1_spare_72 rfl (Nat.le_of_ble_eq_true rfl) rfl ?_
      refine wq_iinc (L' := [some (.ref x0), some (.int (x1 ||| ((1 : Int32) <<< (x2 &&& 31)))), some (.int (x2 + (1 : Int32)))]) (pc := 73) dX1_spare_73 rfl (by rw [gsti1]) (Nat.le_of_ble_eq_true rfl) rfl ?_
      refine wq_goto (pc := 76) (tgt := 35) dX1_spare_76 rfl ?_
      exact wq_T.less V ⟨rfl, ⟨rfl, ⟨rfl, trivial⟩⟩⟩
theorem vX1_critical_0 {G : wq_G} {l : Launch} {d C S : Nat} {K : Int32 → wq_H → Prop} {x0 : Nat} {h : wq_H} (V : wq_gQ h x0 [(0, 5)] (fun r1 => (r1 = none → ∃ fs7 : List Value, h x0 = some (.inr (0, fs7)) ∧ (wq_ci G l d C S mX1_refused [.ref x0, .int (1 : Int32)] h (fun y6 h3 C4 S5 => K y6 h3))) ∧ (∀ a2, r1 = some a2 → ∃ fs13 : List Value, h x0 = some (.inr (0, fs13)) ∧ (wq_cq G l d C S mX1_coloured [.ref x0, .int (0 : Int32), .int (0 : Int32)] h (fun r12 h9 C10 S11 => ∃ a15, r12 = some a15 ∧ (wq_gI h9 a15 [(13, 4)] (fun y17 => (y17 ≤ 0 → wq_T G l d mX1_critical (wq_qi K) 36 [some (.ref x0), some (.int (0 : Int32)), some (.int (0 : Int32))] [] h9 C10 S11) ∧ (¬ y17 ≤ 0 → ∃ fs22 : List Value, h9 x0 = some (.inr (0, fs22)) ∧ (wq_ci G l d C10 S11 mX1_refused [.ref x0, .int (6 : Int32)] h9 (fun y21 h18 C19 S20 => K y21 h18)))))))))) : wq_T G l d mX1_critical (wq_qi K) 0 [some (.ref x0), none, none] [] h C S := by
  refine wq_aload_n (pc := 0) dX1_critical_0 rfl rfl ?_
  refine gfq219 (pc := 1) rfl dX1_critical_1 V (fun r1 V => ?_)
  refine wq_ifnonnull (pc := 4) (tgt := 13) dX1_critical_4 rfl (fun a2 c => ?_) (fun c => ?_)
  · subst c
    have V := V.2 a2 rfl
    refine wq_aload_n (pc := 13) dX1_critical_13 rfl rfl ?_
    refine wq_iconst (pc := 14) dX1_critical_14 gsti0 ?_
    refine wq_iconst (pc := 15) dX1_critical_15 gsti0 ?_
    obtain ⟨fs13, w14, V⟩ := V
    refine clq1408 (pc := 16) (As := [.int (0 : Int32), .int (0 : Int32)]) (st := []) rfl dX1_critical_16 rfl (Nat.le_of_ble_eq_true rfl) w14 V (fun C10 S11 => wx_kq (fun r12 h9 V => ?_))
    obtain ⟨a15, w16, V⟩ := V
    rw [w16]
    refine gfq1384 (pc := 19) rfl dX1_critical_19 V (fun y17 V => ?_)
    refine wq_if_le (pc := 22) (tgt := 32) dX1_critical_22 rfl (fun c => ?_) (fun c => ?_)
    · have V := V.1 c
      refine wq_iconst (pc := 32) dX1_critical_32 gsti0 ?_
      refine wq_istore_n (L' := [some (.ref x0), some (.int (0 : Int32)), none]) (pc := 33) dX1_critical_33 rfl (Nat.le_of_ble_eq_true rfl) rfl ?_
      refine wq_iconst (pc := 34) dX1_critical_34 gsti0 ?_
      refine wq_istore_n (L' := [some (.ref x0), some (.int (0 : Int32)), some (.int (0 : Int32))]) (pc := 35) dX1_critical_35 rfl (Nat.le_of_ble_eq_true rfl) rfl ?_
      exact wq_T.less V ⟨rfl, ⟨rfl, ⟨rfl, trivial⟩⟩⟩
    · have V := V.2 c
      refine wq_aload_n (pc := 25) dX1_critical_25 rfl rfl ?_
      refine wq_bipush (pc := 26) dX1_critical_26 gstb6 ?_
      obtain ⟨fs22, w23, V⟩ := V
      refine clq259 (pc := 28) (As := [.int (6 : Int32)]) (st := []) rfl dX1_critical_28 rfl (Nat.le_of_ble_eq_true rfl) w23 V (fun C19 S20 => wx_ki (fun y21 h18 V => ?_))
      refine wq_iret (pc := 31) dX1_critical_31 rfl ⟨_, rfl, V⟩
  · subst c
    have V := V.1 rfl
    refine wq_aload_n (pc := 7) dX1_critical_7 rfl rfl ?_
    refine wq_iconst (pc := 8) dX1_critical_8 gsti1 ?_
    obtain ⟨fs7, w8, V⟩ := V
    refine clq259 (pc := 9) (As := [.int (1 : Int32)]) (st := []) rfl dX1_critical_9 rfl (Nat.le_of_ble_eq_true rfl) w8 V (fun C4 S5 => wx_ki (fun y6 h3 V => ?_))
    refine wq_iret (pc := 12) dX1_critical_12 rfl ⟨_, rfl, V⟩
theorem vX1_critical_36 {G : wq_G} {l : Launch} {d C S : Nat} {K : Int32 → wq_H → Prop} {x0 : Nat} {x1 : Int32} {x2 : Int32} {h : wq_H} (V : wq_gQ h x0 [(0, 5)] (fun r1 => ∃ a2, r1 = some a2 ∧ (wq_gR h a2 [(5, 5)] (fun a4 => ∃ fs9 : List Value, h a4 = some (.inr (16, fs9)) ∧ (wq_ci G l d C S mJ2_size [.ref a4] h (fun y8 h5 C6 S7 => (y8 ≤ x2 → wq_gQ h5 x0 [(0, 5)] (fun r11 => ∃ a12, r11 = some a12 ∧ (wq_gR h5 a12 [(5, 5)] (fun a14 => ∃ fs19 : List Value, h5 a14 = some (.inr (16, fs19)) ∧ (wq_ci G l d C6 S7 mJ2_size [.ref a14] h5 (fun y18 h15 C16 S17 => ∃ fs25 : List Value, h15 x0 = some (.inr (0, fs25)) ∧ (wq_ci G l d C16 S17 mX1_well [.ref x0, .int ((((1 : Int32) <<< (y18 &&& 31)) - (1 : Int32)) &&& (x1 ^^^ (-1 : Int32)))] h15 (fun y24 h21 C22 S23 => K y24 h21)))))))) ∧ (¬ y8 ≤ x2 → ∃ fs31 : List Value, h5 x0 = some (.inr (0, fs31)) ∧ (wq_cq G l d C6 S7 mX1_coloured [.ref x0, .int (x1 ||| ((1 : Int32) <<< (x2 &&& 31))), .int (0 : Int32)] h5 (fun r30 h27 C28 S29 => ∃ a33, r30 = some a33 ∧ (wq_gI h27 a33 [(13, 4)] (fun y35 => (¬ y35 = 0 → wq_T G l d mX1_critical (wq_qi K) 36 [some (.ref x0), some (.int x1), some (.int (x2 + (1 : Int32)))] [] h27 C28 S29) ∧ (y35 = 0 → wq_T G l d mX1_critical (wq_qi K) 36 [some (.ref x0), some (.int (x1 ||| ((1 : Int32) <<< (x2 &&& 31)))), some (.int (x2 + (1 : Int32)))] [] h27 C28 S29)))))))))))) : wq_T G l d mX1_critical (wq_qi K) 36 [some (.ref x0), some (.int x1), some (.int x2)] [] h C S := by
  refine wq_iload_n (pc := 36) dX1_critical_36 rfl rfl ?_
  refine wq_aload_n (pc := 37) dX1_critical_37 rfl rfl ?_
  refine gfq219 (pc := 38) rfl dX1_critical_38 V (fun r1 V => ?_)
  obtain ⟨a2, w3, V⟩ := V
  rw [w3]
  refine gfq324 (pc := 41) rfl dX1_critical_41 V (fun a4 V => ?_)
  obtain ⟨fs9, w10, V⟩ := V
  refine clq1283 (pc := 44) (As := []) (st := [.int x2]) rfl dX1_critical_44 rfl (Nat.le_of_ble_eq_true rfl) w10 V (fun C6 S7 => wx_ki (fun y8 h5 V => ?_))
  refine wq_icmp_ge (pc := 47) (tgt := 78) dX1_critical_47 rfl (fun c => ?_) (fun c => ?_)
  · have V := V.1 c
    refine wq_aload_n (pc := 78) dX1_critical_78 rfl rfl ?_
    refine wq_iconst (pc := 79) dX1_critical_79 gsti1 ?_
    refine wq_aload_n (pc := 80) dX1_critical_80 rfl rfl ?_
    refine gfq219 (pc := 81) rfl dX1_critical_81 V (fun r11 V => ?_)
    obtain ⟨a12, w13, V⟩ := V
    rw [w13]
    refine gfq324 (pc := 84) rfl dX1_critical_84 V (fun a14 V => ?_)
    obtain ⟨fs19, w20, V⟩ := V
    refine clq1283 (pc := 87) (As := []) (st := [.int (1 : Int32), .ref x0]) rfl dX1_critical_87 rfl (Nat.le_of_ble_eq_true rfl) w20 V (fun C16 S17 => wx_ki (fun y18 h15 V => ?_))
    refine wq_ishl (pc := 90) dX1_critical_90 ?_
    refine wq_iconst (pc := 91) dX1_critical_91 gsti1 ?_
    refine wq_isub (pc := 92) dX1_critical_92 ?_
    refine wq_iload_n (pc := 93) dX1_critical_93 rfl rfl ?_
    refine wq_iconst (pc := 94) dX1_critical_94 gstim1 ?_
    refine wq_ixor (pc := 95) dX1_critical_95 ?_
    refine wq_iand (pc := 96) dX1_critical_96 ?_
    obtain ⟨fs25, w26, V⟩ := V
    refine clq977 (pc := 97) (As := [.int ((((1 : Int32) <<< (y18 &&& 31)) - (1 : Int32)) &&& (x1 ^^^ (-1 : Int32)))]) (st := []) rfl dX1_critical_97 rfl (Nat.le_of_ble_eq_true rfl) w26 V (fun C22 S23 => wx_ki (fun y24 h21 V => ?_))
    refine wq_iret (pc := 100) dX1_critical_100 rfl ⟨_, rfl, V⟩
  · have V := V.2 c
    refine wq_aload_n (pc := 50) dX1_critical_50 rfl rfl ?_
    refine wq_iload_n (pc := 51) dX1_critical_51 rfl rfl ?_
    refine wq_iconst (pc := 52) dX1_critical_52 gsti1 ?_
    refine wq_iload_n (pc := 53) dX1_critical_53 rfl rfl ?_
    refine wq_ishl (pc := 54) dX1_critical_54 ?_
    refine wq_ior (pc := 55) dX1_critical_55 ?_
    refine wq_iconst (pc := 56) dX1_critical_56 gsti0 ?_
    obtain ⟨fs31, w32, V⟩ := V
    refine clq1408 (pc := 57) (As := [.int (x1 ||| ((1 : Int32) <<< (x2 &&& 31))), .int (0 : Int32)]) (st := []) rfl dX1_critical_57 rfl (Nat.le_of_ble_eq_true rfl) w32 V (fun C28 S29 => wx_kq (fun r30 h27 V => ?_))
    obtain ⟨a33, w34, V⟩ := V
    rw [w34]
    refine gfq1384 (pc := 60) rfl dX1_critical_60 V (fun y35 V => ?_)
    refine wq_if_ne (pc := 63) (tgt := 72) dX1_critical_63 rfl (fun c => ?_) (fun c => ?_)
    · have V := V.1 c
      refine wq_iinc (L' := [some (.ref x0), some (.int x1), some (.int (x2 + (1 : Int32)))]) (pc := 72) dX1_critical_72 rfl (by rw [gsti1]) (Nat.le_of_ble_eq_true rfl) rfl ?_
      refine wq_goto (pc := 75) (tgt := 36) dX1_critical_75 rfl ?_
      exact wq_T.less V ⟨rfl, ⟨rfl, ⟨rfl, trivial⟩⟩⟩
    · have V := V.2 c
      refine wq_iload_n (pc := 66) dX1_critical_66 rfl rfl ?_
      refine wq_iconst (pc := 67) dX1_critical_67 gsti1 ?_
      refine wq_iload_n (pc := 68) dX1_critical_68 rfl rfl ?_
      refine wq_ishl (pc := 69) dX1_critical_69 ?_
      refine wq_ior (pc := 70) dX1_critical_70 ?_
      refine wq_istore_n (L' := [some (.ref x0), some (.int (x1 ||| ((1 : Int32) <<< (x2 &&& 31)))), some (.int x2)]) (pc := 71) dX1_critical_71 rfl (Nat.le_of_ble_eq_true rfl) rfl ?_
      refine wq_iinc (L' := [some (.ref x0), some (.int (x1 ||| ((1 : Int32) <<< (x2 &&& 31)))), some (.int (x2 + (1 : Int32)))]) (pc := 72) dX1_critical_72 rfl (by rw [gsti1]) (Nat.le_of_ble_eq_true rfl) rfl ?_
      refine wq_goto (pc := 75) (tgt := 36) dX1_critical_75 rfl ?_
      exact wq_T.less V ⟨rfl, ⟨rfl, ⟨rfl, trivial⟩⟩⟩
theorem vX1_memory_0 {G : wq_G} {l : Launch} {d C S : Nat} {K : Int32 → wq_H → Prop} {x0 : Nat} {h : wq_H} (V : wq_gQ h x0 [(0, 5)] (fun r1 => (r1 = none → ∃ fs7 : List Value, h x0 = some (.inr (0, fs7)) ∧ (wq_ci G l d C S mX1_refused [.ref x0, .int (1 : Int32)] h (fun y6 h3 C4 S5 => K y6 h3))) ∧ (∀ a2, r1 = some a2 → ∃ fs13 : List Value, h x0 = some (.inr (0, fs13)) ∧ (wq_cq G l d C S mX1_leastMachine [.ref x0] h (fun r12 h9 C10 S11 => (r12 = none → ∃ fs20 : List Value, h9 x0 = some (.inr (0, fs20)) ∧ (wq_ci G l d C10 S11 mX1_well [.ref x0, .int (-2 : Int32)] h9 (fun y19 h16 C17 S18 => K y19 h16))) ∧ (∀ a15, r12 = some a15 → G.1 ≤ a15 ∧ (wq_gI h9 a15 [(14, 1)] (fun y22 => ∃ fs28 : List Value, h9 x0 = some (.inr (0, fs28)) ∧ (wq_ci G l d C10 S11 mX1_well [.ref x0, .int y22] h9 (fun y27 h24 C25 S26 => K y27 h24)))))))))) : wq_T G l d mX1_memory (wq_qi K) 0 [some (.ref x0), none] [] h C S := by
  refine wq_aload_n (pc := 0) dX1_memory_0 rfl rfl ?_
  refine gfq219 (pc := 1) rfl dX1_memory_1 V (fun r1 V => ?_)
  refine wq_ifnonnull (pc := 4) (tgt := 13) dX1_memory_4 rfl (fun a2 c => ?_) (fun c => ?_)
  · subst c
    have V := V.2 a2 rfl
    refine wq_aload_n (pc := 13) dX1_memory_13 rfl rfl ?_
    obtain ⟨fs13, w14, V⟩ := V
    refine clq1444 (pc := 14) (As := []) (st := []) rfl dX1_memory_14 rfl (Nat.le_of_ble_eq_true rfl) w14 V (fun C10 S11 => wx_kq (fun r12 h9 V => ?_))
    refine wq_astore_nQ (L' := [some (.ref x0), some (va_rf r12)]) (pc := 17) dX1_memory_17 rfl (Nat.le_of_ble_eq_true rfl) rfl ?_
    refine wq_aload_n (pc := 18) dX1_memory_18 rfl rfl ?_
    refine wq_aload_nQ (pc := 19) dX1_memory_19 rfl rfl ?_
    refine wq_ifnonnull (pc := 20) (tgt := 28) dX1_memory_20 rfl (fun a15 c => ?_) (fun c => ?_)
    · subst c
      have V := V.2 a15 rfl
      refine wq_aload_n (pc := 28) dX1_memory_28 rfl rfl ?_
      obtain ⟨w23, V⟩ := V
      refine gfq1456 (pc := 29) rfl dX1_memory_29 w23 V (fun y22 V => ?_)
      obtain ⟨fs28, w29, V⟩ := V
      refine clq977 (pc := 32) (As := [.int y22]) (st := []) rfl dX1_memory_32 rfl (Nat.le_of_ble_eq_true rfl) w29 V (fun C25 S26 => wx_ki (fun y27 h24 V => ?_))
      refine wq_iret (pc := 35) dX1_memory_35 rfl ⟨_, rfl, V⟩
    · subst c
      have V := V.1 rfl
      refine wq_bipush (pc := 23) dX1_memory_23 gstbm2 ?_
      refine wq_goto (pc := 25) (tgt := 32) dX1_memory_25 rfl ?_
      obtain ⟨fs20, w21, V⟩ := V
      refine clq977 (pc := 32) (As := [.int (-2 : Int32)]) (st := []) rfl dX1_memory_32 rfl (Nat.le_of_ble_eq_true rfl) w21 V (fun C17 S18 => wx_ki (fun y19 h16 V => ?_))
      refine wq_iret (pc := 35) dX1_memory_35 rfl ⟨_, rfl, V⟩
  · subst c
    have V := V.1 rfl
    refine wq_aload_n (pc := 7) dX1_memory_7 rfl rfl ?_
    refine wq_iconst (pc := 8) dX1_memory_8 gsti1 ?_
    obtain ⟨fs7, w8, V⟩ := V
    refine clq259 (pc := 9) (As := [.int (1 : Int32)]) (st := []) rfl dX1_memory_9 rfl (Nat.le_of_ble_eq_true rfl) w8 V (fun C4 S5 => wx_ki (fun y6 h3 V => ?_))
    refine wq_iret (pc := 12) dX1_memory_12 rfl ⟨_, rfl, V⟩
theorem vX1_leastMachine_0 {G : wq_G} {l : Launch} {d C S : Nat} {K : Option Nat → wq_H → Prop} {x0 : Nat} {h : wq_H} (V : wq_T G l d mX1_leastMachine (wq_qq K) 2 [some (.ref x0), some (.int (1 : Int32)), none] [] h C S) : wq_T G l d mX1_leastMachine (wq_qq K) 0 [some (.ref x0), none, none] [] h C S := by
  refine wq_iconst (pc := 0) dX1_leastMachine_0 gsti1 ?_
  refine wq_istore_n (L' := [some (.ref x0), some (.int (1 : Int32)), none]) (pc := 1) dX1_leastMachine_1 rfl (Nat.le_of_ble_eq_true rfl) rfl ?_
  exact wq_T.less V ⟨rfl, ⟨rfl, trivial⟩⟩
theorem vX1_leastMachine_2 {G : wq_G} {l : Launch} {d C S : Nat} {K : Option Nat → wq_H → Prop} {x0 : Nat} {x1 : Int32} {h : wq_H} (V : ((3 : Int32) < x1 → K none h) ∧ (¬ (3 : Int32) < x1 → wq_no G h 14 [.null, .int 0, .null, .null] 4 C S (fun a1 h2 => wq_gQ h2 x0 [(0, 5)] (fun r3 => ∃ a4, r3 = some a4 ∧ (wq_gR h2 a4 [(5, 6)] (fun a6 => wq_cw G l d (C - 1) (S - 4) mX16_init [.ref a1, .ref a6, .int x1] h2 (fun h7 C8 S9 => ∃ fs14 : List Value, h7 a1 = some (.inr (14, fs14)) ∧ (wq_ci G l d C8 S9 mX16_goes [.ref a1, .int (0 : Int32), .int (0 : Int32), .int (0 : Int32)] h7 (fun y13 h10 C11 S12 => (y13 = 0 → wq_T G l d mX1_leastMachine (wq_qq K) 2 [some (.ref x0), some (.int (x1 + (1 : Int32))), none] [] h10 C11 S12) ∧ (¬ y13 = 0 → K (some a1) h10)))))))))) : wq_T G l d mX1_leastMachine (wq_qq K) 2 [some (.ref x0), some (.int x1), none] [] h C S := by
  refine wq_iload_n (pc := 2) dX1_leastMachine_2 rfl rfl ?_
  refine wq_iconst (pc := 3) dX1_leastMachine_3 gsti3 ?_
  refine wq_icmp_gt (pc := 4) (tgt := 41) dX1_leastMachine_4 rfl (fun c => ?_) (fun c => ?_)
  · have V := V.1 c
    refine wq_aconst (pc := 41) dX1_leastMachine_41 ?_
    refine wq_aret (r := none) (pc := 42) dX1_leastMachine_42 rfl rfl ⟨_, rfl, V⟩
  · have V := V.2 c
    refine nwq1448 (pc := 7) rfl dX1_leastMachine_7 V (fun a1 h2 V => ?_)
    refine wq_dup (pc := 10) dX1_leastMachine_10 rfl ?_
    refine wq_aload_n (pc := 11) dX1_leastMachine_11 rfl rfl ?_
    refine gfq219 (pc := 12) rfl dX1_leastMachine_12 V (fun r3 V => ?_)
    obtain ⟨a4, w5, V⟩ := V
    rw [w5]
    refine gfq327 (pc := 15) rfl dX1_leastMachine_15 V (fun a6 V => ?_)
    refine wq_iload_n (pc := 18) dX1_leastMachine_18 rfl rfl ?_
    refine clq1450 (pc := 19) (As := [.ref a6, .int x1]) (st := [.ref a1]) rfl dX1_leastMachine_19 rfl (Nat.le_of_ble_eq_true rfl) V (fun C8 S9 => wx_kv (fun h7 V => ?_))
    refine wq_astore_n (L' := [some (.ref x0), some (.int x1), some (.ref a1)]) (pc := 22) dX1_leastMachine_22 rfl (Nat.le_of_ble_eq_true rfl) rfl ?_
    refine wq_aload_n (pc := 23) dX1_leastMachine_23 rfl rfl ?_
    refine wq_iconst (pc := 24) dX1_leastMachine_24 gsti0 ?_
    refine wq_iconst (pc := 25) dX1_leastMachine_25 gsti0 ?_
    refine wq_iconst (pc := 26) dX1_leastMachine_26 gsti0 ?_
    obtain ⟨fs14, w15, V⟩ := V
    refine clq1470 (pc := 27) (As := [.int (0 : Int32), .int (0 : Int32), .int (0 : Int32)]) (st := []) rfl dX1_leastMachine_27 rfl (Nat.le_of_ble_eq_true rfl) w15 V (fun C11 S12 => wx_ki (fun y13 h10 V => ?_))
    refine wq_if_eq (pc := 30) (tgt := 35) dX1_leastMachine_30 rfl (fun c => ?_) (fun c => ?_)
    · have V := V.1 c
      refine wq_iinc (L' := [some (.ref x0), some (.int (x1 + (1 : Int32))), some (.ref a1)]) (pc := 35) dX1_leastMachine_35 rfl (by rw [gsti1]) (Nat.le_of_ble_eq_true rfl) rfl ?_
      refine wq_goto (pc := 38) (tgt := 2) dX1_leastMachine_38 rfl ?_
      exact wq_T.less V ⟨rfl, ⟨rfl, trivial⟩⟩
    · have V := V.2 c
      refine wq_aload_n (pc := 33) dX1_leastMachine_33 rfl rfl ?_
      refine wq_aret (r := (some a1)) (pc := 34) dX1_leastMachine_34 rfl rfl ⟨_, rfl, V⟩
theorem vX1_machine_0 {G : wq_G} {l : Launch} {d C S : Nat} {K : Int32 → wq_H → Prop} {x0 : Nat} {x1 : Int32} {x2 : Int32} {x3 : Int32} {h : wq_H} (V : wq_ci G l d C S mX1_in [.int x1, .int (0 : Int32), .int (2 : Int32)] h (fun y4 h1 C2 S3 => (y4 = 0 → ∃ fs9 : List Value, h1 x0 = some (.inr (0, fs9)) ∧ (wq_ci G l d C2 S3 mX1_refused [.ref x0, .int (1 : Int32)] h1 (fun y8 h5 C6 S7 => K y8 h5))) ∧ (¬ y4 = 0 → ∃ fs15 : List Value, h1 x0 = some (.inr (0, fs15)) ∧ (wq_ci G l d C2 S3 mX1_isLook [.ref x0, .int x2] h1 (fun y14 h11 C12 S13 => (¬ y14 = 0 → ∃ fs21 : List Value, h11 x0 = some (.inr (0, fs21)) ∧ (wq_cq G l d C12 S13 mX1_leastMachine [.ref x0] h11 (fun r20 h17 C18 S19 => (r20 = none → ∃ fs28 : List Value, h17 x0 = some (.inr (0, fs28)) ∧ (wq_ci G l d C18 S19 mX1_refused [.ref x0, .int (6 : Int32)] h17 (fun y27 h24 C25 S26 => K y27 h24))) ∧ (∀ a23, r20 = some a23 → G.1 ≤ a23 ∧ (wq_gR h17 a23 [(14, 2)] (fun a30 => wq_ai G h17 a30 (((6 : Int32) * x1) + x2) (fun y32 => (¬ y32 = (-1 : Int32) → (x3 = 0 → G.1 ≤ a23 ∧ (wq_gR h17 a23 [(14, 2)] (fun a33 => wq_ai G h17 a33 (((6 : Int32) * x1) + x2) (fun y35 => ∃ fs40 : List Value, h17 x0 = some (.inr (0, fs40)) ∧ (wq_ci G l d C18 S19 mX1_well [.ref x0, .int y35] h17 (fun y39 h36 C37 S38 => K y39 h36)))))) ∧ (¬ x3 = 0 → G.1 ≤ a23 ∧ (wq_gR h17 a23 [(14, 3)] (fun a42 => wq_ai G h17 a42 (((6 : Int32) * x1) + x2) (fun y44 => ∃ fs49 : List Value, h17 x0 = some (.inr (0, fs49)) ∧ (wq_ci G l d C18 S19 mX1_well [.ref x0, .int y44] h17 (fun y48 h45 C46 S47 => K y48 h45))))))) ∧ (y32 = (-1 : Int32) → ∃ fs55 : List Value, h17 x0 = some (.inr (0, fs55)) ∧ (wq_ci G l d C18 S19 mX1_well [.ref x0, .int (-2 : Int32)] h17 (fun y54 h51 C52 S53 => K y54 h51)))))))))) ∧ (y14 = 0 → ∃ fs61 : List Value, h11 x0 = some (.inr (0, fs61)) ∧ (wq_ci G l d C12 S13 mX1_refused [.ref x0, .int (1 : Int32)] h11 (fun y60 h57 C58 S59 => K y60 h57)))))))) : wq_T G l d mX1_machine (wq_qi K) 0 [some (.ref x0), some (.int x1), some (.int x2), some (.int x3), none, none] [] h C S := by
  refine wq_iload_n (pc := 0) dX1_machine_0 rfl rfl ?_
  refine wq_iconst (pc := 1) dX1_machine_1 gsti0 ?_
  refine wq_iconst (pc := 2) dX1_machine_2 gsti2 ?_
  refine clq256 (pc := 3) (As := [.int x1, .int (0 : Int32), .int (2 : Int32)]) (st := []) rfl dX1_machine_3 rfl (Nat.le_of_ble_eq_true rfl) V (fun C2 S3 => wx_ki (fun y4 h1 V => ?_))
  refine wq_if_eq (pc := 6) (tgt := 17) dX1_machine_6 rfl (fun c => ?_) (fun c => ?_)
  · have V := V.1 c
    refine wq_aload_n (pc := 17) dX1_machine_17 rfl rfl ?_
    refine wq_iconst (pc := 18) dX1_machine_18 gsti1 ?_
    obtain ⟨fs9, w10, V⟩ := V
    refine clq259 (pc := 19) (As := [.int (1 : Int32)]) (st := []) rfl dX1_machine_19 rfl (Nat.le_of_ble_eq_true rfl) w10 V (fun C6 S7 => wx_ki (fun y8 h5 V => ?_))
    refine wq_iret (pc := 22) dX1_machine_22 rfl ⟨_, rfl, V⟩
  · have V := V.2 c
    refine wq_aload_n (pc := 9) dX1_machine_9 rfl rfl ?_
    refine wq_iload_n (pc := 10) dX1_machine_10 rfl rfl ?_
    obtain ⟨fs15, w16, V⟩ := V
    refine clq1059 (pc := 11) (As := [.int x2]) (st := []) rfl dX1_machine_11 rfl (Nat.le_of_ble_eq_true rfl) w16 V (fun C12 S13 => wx_ki (fun y14 h11 V => ?_))
    refine wq_if_ne (pc := 14) (tgt := 23) dX1_machine_14 rfl (fun c => ?_) (fun c => ?_)
    · have V := V.1 c
      refine wq_aload_n (pc := 23) dX1_machine_23 rfl rfl ?_
      obtain ⟨fs21, w22, V⟩ := V
      refine clq1444 (pc := 24) (As := []) (st := []) rfl dX1_machine_24 rfl (Nat.le_of_ble_eq_true rfl) w22 V (fun C18 S19 => wx_kq (fun r20 h17 V => ?_))
      refine wq_astoreQ (L' := [some (.ref x0), some (.int x1), some (.int x2), some (.int x3), some (va_rf r20), none]) (pc := 27) dX1_machine_27 (Nat.le_of_ble_eq_true rfl) rfl ?_
      refine wq_aloadQ (pc := 29) dX1_machine_29 rfl ?_
      refine wq_ifnonnull (pc := 31) (tgt := 41) dX1_machine_31 rfl (fun a23 c => ?_) (fun c => ?_)
      · subst c
        have V := V.2 a23 rfl
        refine wq_bipush (pc := 41) dX1_machine_41 gstb6 ?_
        refine wq_iload_n (pc := 43) dX1_machine_43 rfl rfl ?_
        refine wq_imul (pc := 44) dX1_machine_44 ?_
        refine wq_iload_n (pc := 45) dX1_machine_45 rfl rfl ?_
        refine wq_iadd (pc := 46) dX1_machine_46 ?_
        refine wq_istore (L' := [some (.ref x0), some (.int x1), some (.int x2), some (.int x3), some (.ref a23), some (.int (((6 : Int32) * x1) + x2))]) (pc := 47) dX1_machine_47 (Nat.le_of_ble_eq_true rfl) rfl ?_
        refine wq_aload_n (pc := 49) dX1_machine_49 rfl rfl ?_
        refine wq_aload (pc := 50) dX1_machine_50 rfl ?_
        obtain ⟨w31, V⟩ := V
        refine gfq1458 (pc := 52) rfl dX1_machine_52 w31 V (fun a30 V => ?_)
        refine wq_iload (pc := 55) dX1_machine_55 rfl ?_
        refine wx_ai (pc := 57) dX1_machine_57 V (fun y32 V => ?_)
        refine wq_iconst (pc := 58) dX1_machine_58 gstim1 ?_
        refine wq_icmp_ne (pc := 59) (tgt := 67) dX1_machine_59 rfl (fun c => ?_) (fun c => ?_)
        · have V := V.1 c
          refine wq_iload_n (pc := 67) dX1_machine_67 rfl rfl ?_
          refine wq_if_eq (pc := 68) (tgt := 82) dX1_machine_68 rfl (fun c => ?_) (fun c => ?_)
          · have V := V.1 c
            refine wq_aload (pc := 82) dX1_machine_82 rfl ?_
            obtain ⟨w34, V⟩ := V
            refine gfq1458 (pc := 84) rfl dX1_machine_84 w34 V (fun a33 V => ?_)
            refine wq_iload (pc := 87) dX1_machine_87 rfl ?_
            refine wx_ai (pc := 89) dX1_machine_89 V (fun y35 V => ?_)
            obtain ⟨fs40, w41, V⟩ := V
            refine clq977 (pc := 90) (As := [.int y35]) (st := []) rfl dX1_machine_90 rfl (Nat.le_of_ble_eq_true rfl) w41 V (fun C37 S38 => wx_ki (fun y39 h36 V => ?_))
            refine wq_iret (pc := 93) dX1_machine_93 rfl ⟨_, rfl, V⟩
          · have V := V.2 c
            refine wq_aload (pc := 71) dX1_machine_71 rfl ?_
            obtain ⟨w43, V⟩ := V
            refine gfq1460 (pc := 73) rfl dX1_machine_73 w43 V (fun a42 V => ?_)
            refine wq_iload (pc := 76) dX1_machine_76 rfl ?_
            refine wx_ai (pc := 78) dX1_machine_78 V (fun y44 V => ?_)
            refine wq_goto (pc := 79) (tgt := 90) dX1_machine_79 rfl ?_
            obtain ⟨fs49, w50, V⟩ := V
            refine clq977 (pc := 90) (As := [.int y44]) (st := []) rfl dX1_machine_90 rfl (Nat.le_of_ble_eq_true rfl) w50 V (fun C46 S47 => wx_ki (fun y48 h45 V => ?_))
            refine wq_iret (pc := 93) dX1_machine_93 rfl ⟨_, rfl, V⟩
        · have V := V.2 c
          refine wq_bipush (pc := 62) dX1_machine_62 gstbm2 ?_
          refine wq_goto (pc := 64) (tgt := 90) dX1_machine_64 rfl ?_
          obtain ⟨fs55, w56, V⟩ := V
          refine clq977 (pc := 90) (As := [.int (-2 : Int32)]) (st := []) rfl dX1_machine_90 rfl (Nat.le_of_ble_eq_true rfl) w56 V (fun C52 S53 => wx_ki (fun y54 h51 V => ?_))
          refine wq_iret (pc := 93) dX1_machine_93 rfl ⟨_, rfl, V⟩
      · subst c
        have V := V.1 rfl
        refine wq_aload_n (pc := 34) dX1_machine_34 rfl rfl ?_
        refine wq_bipush (pc := 35) dX1_machine_35 gstb6 ?_
        obtain ⟨fs28, w29, V⟩ := V
        refine clq259 (pc := 37) (As := [.int (6 : Int32)]) (st := []) rfl dX1_machine_37 rfl (Nat.le_of_ble_eq_true rfl) w29 V (fun C25 S26 => wx_ki (fun y27 h24 V => ?_))
        refine wq_iret (pc := 40) dX1_machine_40 rfl ⟨_, rfl, V⟩
    · have V := V.2 c
      refine wq_aload_n (pc := 17) dX1_machine_17 rfl rfl ?_
      refine wq_iconst (pc := 18) dX1_machine_18 gsti1 ?_
      obtain ⟨fs61, w62, V⟩ := V
      refine clq259 (pc := 19) (As := [.int (1 : Int32)]) (st := []) rfl dX1_machine_19 rfl (Nat.le_of_ble_eq_true rfl) w62 V (fun C58 S59 => wx_ki (fun y60 h57 V => ?_))
      refine wq_iret (pc := 22) dX1_machine_22 rfl ⟨_, rfl, V⟩
theorem vX1_flip_0 {G : wq_G} {l : Launch} {d C S : Nat} {K : Int32 → wq_H → Prop} {x0 : Nat} {x1 : Int32} {h : wq_H} (V : ∃ fs5 : List Value, h x0 = some (.inr (0, fs5)) ∧ (wq_ci G l d C S mX1_isLook [.ref x0, .int x1] h (fun y4 h1 C2 S3 => (¬ y4 = 0 → ∃ fs11 : List Value, h1 x0 = some (.inr (0, fs11)) ∧ (wq_cq G l d C2 S3 mX1_keeps [.ref x0, .int (0 : Int32), .int x1] h1 (fun r10 h7 C8 S9 => wq_gR h7 x0 [(0, 6)] (fun a13 => ∃ fs17 : List Value, h7 a13 = some (.inr (6, fs17)) ∧ (wq_cw G l d C8 S9 mX7_flips [.ref a13, .int x1] h7 (fun h14 C15 S16 => ∃ fs23 : List Value, h14 x0 = some (.inr (0, fs23)) ∧ (wq_ci G l d C15 S16 mX1_granted [.ref x0] h14 (fun y22 h19 C20 S21 => narrow .boolean (.int y22) = .int y22 ∧ K y22 h19)))))))) ∧ (y4 = 0 → ∃ fs29 : List Value, h1 x0 = some (.inr (0, fs29)) ∧ (wq_ci G l d C2 S3 mX1_denied [.ref x0, .int (1 : Int32)] h1 (fun y28 h25 C26 S27 => narrow .boolean (.int y28) = .int y28 ∧ K y28 h25)))))) : wq_T G l d mX1_flip (wq_qi K) 0 [some (.ref x0), some (.int x1)] [] h C S := by
  refine wq_aload_n (pc := 0) dX1_flip_0 rfl rfl ?_
  refine wq_iload_n (pc := 1) dX1_flip_1 rfl rfl ?_
  obtain ⟨fs5, w6, V⟩ := V
  refine clq1059 (pc := 2) (As := [.int x1]) (st := []) rfl dX1_flip_2 rfl (Nat.le_of_ble_eq_true rfl) w6 V (fun C2 S3 => wx_ki (fun y4 h1 V => ?_))
  refine wq_if_ne (pc := 5) (tgt := 14) dX1_flip_5 rfl (fun c => ?_) (fun c => ?_)
  · have V := V.1 c
    refine wq_aload_n (pc := 14) dX1_flip_14 rfl rfl ?_
    refine wq_iconst (pc := 15) dX1_flip_15 gsti0 ?_
    refine wq_iload_n (pc := 16) dX1_flip_16 rfl rfl ?_
    obtain ⟨fs11, w12, V⟩ := V
    refine clq1490 (pc := 17) (As := [.int (0 : Int32), .int x1]) (st := []) rfl dX1_flip_17 rfl (Nat.le_of_ble_eq_true rfl) w12 V (fun C8 S9 => wx_kq (fun r10 h7 V => ?_))
    refine wq_pop (pc := 20) dX1_flip_20 (wq_cat1 _) ?_
    refine wq_aload_n (pc := 21) dX1_flip_21 rfl rfl ?_
    refine gfq220 (pc := 22) rfl dX1_flip_22 V (fun a13 V => ?_)
    refine wq_iload_n (pc := 25) dX1_flip_25 rfl rfl ?_
    obtain ⟨fs17, w18, V⟩ := V
    refine clq1519 (pc := 26) (As := [.int x1]) (st := []) rfl dX1_flip_26 rfl (Nat.le_of_ble_eq_true rfl) w18 V (fun C15 S16 => wx_kv (fun h14 V => ?_))
    refine wq_aload_n (pc := 29) dX1_flip_29 rfl rfl ?_
    obtain ⟨fs23, w24, V⟩ := V
    refine clq1239 (pc := 30) (As := []) (st := []) rfl dX1_flip_30 rfl (Nat.le_of_ble_eq_true rfl) w24 V (fun C20 S21 => wx_ki (fun y22 h19 V => ?_))
    refine wq_zret (pc := 33) dX1_flip_33 rfl V.1 ⟨_, rfl, V.2⟩
  · have V := V.2 c
    refine wq_aload_n (pc := 8) dX1_flip_8 rfl rfl ?_
    refine wq_iconst (pc := 9) dX1_flip_9 gsti1 ?_
    obtain ⟨fs29, w30, V⟩ := V
    refine clq1235 (pc := 10) (As := [.int (1 : Int32)]) (st := []) rfl dX1_flip_10 rfl (Nat.le_of_ble_eq_true rfl) w30 V (fun C26 S27 => wx_ki (fun y28 h25 V => ?_))
    refine wq_zret (pc := 13) dX1_flip_13 rfl V.1 ⟨_, rfl, V.2⟩
theorem vX1_keeps_0 {G : wq_G} {l : Launch} {d C S : Nat} {K : Option Nat → wq_H → Prop} {x0 : Nat} {x1 : Int32} {x2 : Int32} {h : wq_H} (V : wq_gR h x0 [(0, 8)] (fun a1 => ∃ fs6 : List Value, h a1 = some (.inr (16, fs6)) ∧ (wq_ci G l d C S mJ2_size [.ref a1] h (fun y5 h2 C3 S4 => (¬ y5 = (20 : Int32) → wq_no G h2 15 [.null, .null] 2 C3 S4 (fun a8 h9 => wq_gR h9 x0 [(0, 6)] (fun a10 => wq_cw G l d (C3 - 1) (S4 - 2) mX17_init [.ref a8, .ref a10, .int x1, .int x2] h9 (fun h11 C12 S13 => wq_gR h11 x0 [(0, 8)] (fun a14 => ∃ fs19 : List Value, h11 a14 = some (.inr (16, fs19)) ∧ (wq_ci G l d C12 S13 mJ2_add [.ref a14, .ref a8] h11 (fun y18 h15 C16 S17 => wq_gR h15 x0 [(0, 6)] (fun a21 => ∃ fs26 : List Value, h15 a21 = some (.inr (6, fs26)) ∧ (wq_cq G l d C16 S17 mX7_copy [.ref a21, .int (1 : Int32)] h15 (fun r25 h22 C23 S24 => wq_pf G h22 x0 [(0, 6)] (va_rf r25) (fun h28 => wq_gR h28 x0 [(0, 9)] (fun a29 => ∃ fs33 : List Value, h28 a29 = some (.inr (16, fs33)) ∧ (wq_cw G l d C23 S24 mJ2_clear [.ref a29] h28 (fun h30 C31 S32 => K (some a8) h30)))))))))))))) ∧ (y5 = (20 : Int32) → wq_gR h2 x0 [(0, 8)] (fun a35 => ∃ fs40 : List Value, h2 a35 = some (.inr (16, fs40)) ∧ (wq_cq G l d C3 S4 mJ2_remove [.ref a35, .int (0 : Int32)] h2 (fun r39 h36 C37 S38 => wq_no G h36 15 [.null, .null] 2 C37 S38 (fun a42 h43 => wq_gR h43 x0 [(0, 6)] (fun a44 => wq_cw G l d (C37 - 1) (S38 - 2) mX17_init [.ref a42, .ref a44, .int x1, .int x2] h43 (fun h45 C46 S47 => wq_gR h45 x0 [(0, 8)] (fun a48 => ∃ fs53 : List Value, h45 a48 = some (.inr (16, fs53)) ∧ (wq_ci G l d C46 S47 mJ2_add [.ref a48, .ref a42] h45 (fun y52 h49 C50 S51 => wq_gR h49 x0 [(0, 6)] (fun a55 => ∃ fs60 : List Value, h49 a55 = some (.inr (6, fs60)) ∧ (wq_cq G l d C50 S51 mX7_copy [.ref a55, .int (1 : Int32)] h49 (fun r59 h56 C57 S58 => wq_pf G h56 x0 [(0, 6)] (va_rf r59) (fun h62 => wq_gR h62 x0 [(0, 9)] (fun a63 => ∃ fs67 : List Value, h62 a63 = some (.inr (16, fs67)) ∧ (wq_cw G l d C57 S58 mJ2_clear [.ref a63] h62 (fun h64 C65 S66 => K (some a42) h64))))))))))))))))))))) : wq_T G l d mX1_keeps (wq_qq K) 0 [some (.ref x0), some (.int x1), some (.int x2), none] [] h C S := by
  refine wq_aload_n (pc := 0) dX1_keeps_0 rfl rfl ?_
  refine gfq222 (pc := 1) rfl dX1_keeps_1 V (fun a1 V => ?_)
  obtain ⟨fs6, w7, V⟩ := V
  refine clq1283 (pc := 4) (As := []) (st := []) rfl dX1_keeps_4 rfl (Nat.le_of_ble_eq_true rfl) w7 V (fun C3 S4 => wx_ki (fun y5 h2 V => ?_))
  refine wq_bipush (pc := 7) dX1_keeps_7 gstb20 ?_
  refine wq_icmp_ne (pc := 9) (tgt := 21) dX1_keeps_9 rfl (fun c => ?_) (fun c => ?_)
  · have V := V.1 c
    refine nwq1503 (pc := 21) rfl dX1_keeps_21 V (fun a8 h9 V => ?_)
    refine wq_dup (pc := 24) dX1_keeps_24 rfl ?_
    refine wq_aload_n (pc := 25) dX1_keeps_25 rfl rfl ?_
    refine gfq220 (pc := 26) rfl dX1_keeps_26 V (fun a10 V => ?_)
    refine wq_iload_n (pc := 29) dX1_keeps_29 rfl rfl ?_
    refine wq_iload_n (pc := 30) dX1_keeps_30 rfl rfl ?_
    refine clq1505 (pc := 31) (As := [.ref a10, .int x1, .int x2]) (st := [.ref a8]) rfl dX1_keeps_31 rfl (Nat.le_of_ble_eq_true rfl) V (fun C12 S13 => wx_kv (fun h11 V => ?_))
    refine wq_astore_n (L' := [some (.ref x0), some (.int x1), some (.int x2), some (.ref a8)]) (pc := 34) dX1_keeps_34 rfl (Nat.le_of_ble_eq_true rfl) rfl ?_
    refine wq_aload_n (pc := 35) dX1_keeps_35 rfl rfl ?_
    refine gfq222 (pc := 36) rfl dX1_keeps_36 V (fun a14 V => ?_)
    refine wq_aload_n (pc := 39) dX1_keeps_39 rfl rfl ?_
    obtain ⟨fs19, w20, V⟩ := V
    refine clq1518 (pc := 40) (As := [.ref a8]) (st := []) rfl dX1_keeps_40 rfl (Nat.le_of_ble_eq_true rfl) w20 V (fun C16 S17 => wx_ki (fun y18 h15 V => ?_))
    refine wq_pop (pc := 43) dX1_keeps_43 rfl ?_
    refine wq_aload_n (pc := 44) dX1_keeps_44 rfl rfl ?_
    refine wq_aload_n (pc := 45) dX1_keeps_45 rfl rfl ?_
    refine gfq220 (pc := 46) rfl dX1_keeps_46 V (fun a21 V => ?_)
    refine wq_iconst (pc := 49) dX1_keeps_49 gsti1 ?_
    obtain ⟨fs26, w27, V⟩ := V
    refine clq944 (pc := 50) (As := [.int (1 : Int32)]) (st := [.ref x0]) rfl dX1_keeps_50 rfl (Nat.le_of_ble_eq_true rfl) w27 V (fun C23 S24 => wx_kq (fun r25 h22 V => ?_))
    refine pfq220 (pc := 53) rfl dX1_keeps_53 (wq_nfr rfl r25) V (fun h28 V => ?_)
    refine wq_aload_n (pc := 56) dX1_keeps_56 rfl rfl ?_
    refine gfq223 (pc := 57) rfl dX1_keeps_57 V (fun a29 V => ?_)
    obtain ⟨fs33, w34, V⟩ := V
    refine clq973 (pc := 60) (As := []) (st := []) rfl dX1_keeps_60 rfl (Nat.le_of_ble_eq_true rfl) w34 V (fun C31 S32 => wx_kv (fun h30 V => ?_))
    refine wq_aload_n (pc := 63) dX1_keeps_63 rfl rfl ?_
    refine wq_aret (r := (some a8)) (pc := 64) dX1_keeps_64 rfl rfl ⟨_, rfl, V⟩
  · have V := V.2 c
    refine wq_aload_n (pc := 12) dX1_keeps_12 rfl rfl ?_
    refine gfq222 (pc := 13) rfl dX1_keeps_13 V (fun a35 V => ?_)
    refine wq_iconst (pc := 16) dX1_keeps_16 gsti0 ?_
    obtain ⟨fs40, w41, V⟩ := V
    refine clq1494 (pc := 17) (As := [.int (0 : Int32)]) (st := []) rfl dX1_keeps_17 rfl (Nat.le_of_ble_eq_true rfl) w41 V (fun C37 S38 => wx_kq (fun r39 h36 V => ?_))
    refine wq_pop (pc := 20) dX1_keeps_20 (wq_cat1 _) ?_
    refine nwq1503 (pc := 21) rfl dX1_keeps_21 V (fun a42 h43 V => ?_)
    refine wq_dup (pc := 24) dX1_keeps_24 rfl ?_
    refine wq_aload_n (pc := 25) dX1_keeps_25 rfl rfl ?_
    refine gfq220 (pc := 26) rfl dX1_keeps_26 V (fun a44 V => ?_)
    refine wq_iload_n (pc := 29) dX1_keeps_29 rfl rfl ?_
    refine wq_iload_n (pc := 30) dX1_keeps_30 rfl rfl ?_
    refine clq1505 (pc := 31) (As := [.ref a44, .int x1, .int x2]) (st := [.ref a42]) rfl dX1_keeps_31 rfl (Nat.le_of_ble_eq_true rfl) V (fun C46 S47 => wx_kv (fun h45 V => ?_))
    refine wq_astore_n (L' := [some (.ref x0), some (.int x1), some (.int x2), some (.ref a42)]) (pc := 34) dX1_keeps_34 rfl (Nat.le_of_ble_eq_true rfl) rfl ?_
    refine wq_aload_n (pc := 35) dX1_keeps_35 rfl rfl ?_
    refine gfq222 (pc := 36) rfl dX1_keeps_36 V (fun a48 V => ?_)
    refine wq_aload_n (pc := 39) dX1_keeps_39 rfl rfl ?_
    obtain ⟨fs53, w54, V⟩ := V
    refine clq1518 (pc := 40) (As := [.ref a42]) (st := []) rfl dX1_keeps_40 rfl (Nat.le_of_ble_eq_true rfl) w54 V (fun C50 S51 => wx_ki (fun y52 h49 V => ?_))
    refine wq_pop (pc := 43) dX1_keeps_43 rfl ?_
    refine wq_aload_n (pc := 44) dX1_keeps_44 rfl rfl ?_
    refine wq_aload_n (pc := 45) dX1_keeps_45 rfl rfl ?_
    refine gfq220 (pc := 46) rfl dX1_keeps_46 V (fun a55 V => ?_)
    refine wq_iconst (pc := 49) dX1_keeps_49 gsti1 ?_
    obtain ⟨fs60, w61, V⟩ := V
    refine clq944 (pc := 50) (As := [.int (1 : Int32)]) (st := [.ref x0]) rfl dX1_keeps_50 rfl (Nat.le_of_ble_eq_true rfl) w61 V (fun C57 S58 => wx_kq (fun r59 h56 V => ?_))
    refine pfq220 (pc := 53) rfl dX1_keeps_53 (wq_nfr rfl r59) V (fun h62 V => ?_)
    refine wq_aload_n (pc := 56) dX1_keeps_56 rfl rfl ?_
    refine gfq223 (pc := 57) rfl dX1_keeps_57 V (fun a63 V => ?_)
    obtain ⟨fs67, w68, V⟩ := V
    refine clq973 (pc := 60) (As := []) (st := []) rfl dX1_keeps_60 rfl (Nat.le_of_ble_eq_true rfl) w68 V (fun C65 S66 => wx_kv (fun h64 V => ?_))
    refine wq_aload_n (pc := 63) dX1_keeps_63 rfl rfl ?_
    refine wq_aret (r := (some a42)) (pc := 64) dX1_keeps_64 rfl rfl ⟨_, rfl, V⟩
theorem vX1_drop_0 {G : wq_G} {l : Launch} {d C S : Nat} {K : Int32 → wq_H → Prop} {x0 : Nat} {x1 : Int32} {h : wq_H} (V : ∃ fs5 : List Value, h x0 = some (.inr (0, fs5)) ∧ (wq_ci G l d C S mX1_isSet [.ref x0, .int x1] h (fun y4 h1 C2 S3 => (¬ y4 = 0 → ∃ fs11 : List Value, h1 x0 = some (.inr (0, fs11)) ∧ (wq_cq G l d C2 S3 mX1_keeps [.ref x0, .int (1 : Int32), .int x1] h1 (fun r10 h7 C8 S9 => wq_gR h7 x0 [(0, 6)] (fun a13 => wq_gR h7 a13 [(6, 0)] (fun a14 => ∃ fs19 : List Value, h7 a14 = some (.inr (16, fs19)) ∧ (wq_cq G l d C8 S9 mJ2_remove [.ref a14, .int x1] h7 (fun r18 h15 C16 S17 => ∃ fs25 : List Value, h15 x0 = some (.inr (0, fs25)) ∧ (wq_ci G l d C16 S17 mX1_granted [.ref x0] h15 (fun y24 h21 C22 S23 => narrow .boolean (.int y24) = .int y24 ∧ K y24 h21))))))))) ∧ (y4 = 0 → ∃ fs31 : List Value, h1 x0 = some (.inr (0, fs31)) ∧ (wq_ci G l d C2 S3 mX1_denied [.ref x0, .int (1 : Int32)] h1 (fun y30 h27 C28 S29 => narrow .boolean (.int y30) = .int y30 ∧ K y30 h27)))))) : wq_T G l d mX1_drop (wq_qi K) 0 [some (.ref x0), some (.int x1)] [] h C S := by
  refine wq_aload_n (pc := 0) dX1_drop_0 rfl rfl ?_
  refine wq_iload_n (pc := 1) dX1_drop_1 rfl rfl ?_
  obtain ⟨fs5, w6, V⟩ := V
  refine clq1173 (pc := 2) (As := [.int x1]) (st := []) rfl dX1_drop_2 rfl (Nat.le_of_ble_eq_true rfl) w6 V (fun C2 S3 => wx_ki (fun y4 h1 V => ?_))
  refine wq_if_ne (pc := 5) (tgt := 14) dX1_drop_5 rfl (fun c => ?_) (fun c => ?_)
  · have V := V.1 c
    refine wq_aload_n (pc := 14) dX1_drop_14 rfl rfl ?_
    refine wq_iconst (pc := 15) dX1_drop_15 gsti1 ?_
    refine wq_iload_n (pc := 16) dX1_drop_16 rfl rfl ?_
    obtain ⟨fs11, w12, V⟩ := V
    refine clq1490 (pc := 17) (As := [.int (1 : Int32), .int x1]) (st := []) rfl dX1_drop_17 rfl (Nat.le_of_ble_eq_true rfl) w12 V (fun C8 S9 => wx_kq (fun r10 h7 V => ?_))
    refine wq_pop (pc := 20) dX1_drop_20 (wq_cat1 _) ?_
    refine wq_aload_n (pc := 21) dX1_drop_21 rfl rfl ?_
    refine gfq220 (pc := 22) rfl dX1_drop_22 V (fun a13 V => ?_)
    refine gfq301 (pc := 25) rfl dX1_drop_25 V (fun a14 V => ?_)
    refine wq_iload_n (pc := 28) dX1_drop_28 rfl rfl ?_
    obtain ⟨fs19, w20, V⟩ := V
    refine clq1494 (pc := 29) (As := [.int x1]) (st := []) rfl dX1_drop_29 rfl (Nat.le_of_ble_eq_true rfl) w20 V (fun C16 S17 => wx_kq (fun r18 h15 V => ?_))
    refine wq_pop (pc := 32) dX1_drop_32 (wq_cat1 _) ?_
    refine wq_aload_n (pc := 33) dX1_drop_33 rfl rfl ?_
    obtain ⟨fs25, w26, V⟩ := V
    refine clq1239 (pc := 34) (As := []) (st := []) rfl dX1_drop_34 rfl (Nat.le_of_ble_eq_true rfl) w26 V (fun C22 S23 => wx_ki (fun y24 h21 V => ?_))
    refine wq_zret (pc := 37) dX1_drop_37 rfl V.1 ⟨_, rfl, V.2⟩
  · have V := V.2 c
    refine wq_aload_n (pc := 8) dX1_drop_8 rfl rfl ?_
    refine wq_iconst (pc := 9) dX1_drop_9 gsti1 ?_
    obtain ⟨fs31, w32, V⟩ := V
    refine clq1235 (pc := 10) (As := [.int (1 : Int32)]) (st := []) rfl dX1_drop_10 rfl (Nat.le_of_ble_eq_true rfl) w32 V (fun C28 S29 => wx_ki (fun y30 h27 V => ?_))
    refine wq_zret (pc := 13) dX1_drop_13 rfl V.1 ⟨_, rfl, V.2⟩
theorem vX1_forget_0 {G : wq_G} {l : Launch} {d C S : Nat} {K : Int32 → wq_H → Prop} {x0 : Nat} {x1 : Int32} {h : wq_H} (V : ∃ fs5 : List Value, h x0 = some (.inr (0, fs5)) ∧ (wq_ci G l d C S mX1_isLook [.ref x0, .int x1] h (fun y4 h1 C2 S3 => (¬ y4 = 0 → wq_gR h1 x0 [(0, 6)] (fun a7 => ∃ fs12 : List Value, h1 a7 = some (.inr (6, fs12)) ∧ (wq_ci G l d C2 S3 mX7_isOf [.ref a7, .int x1] h1 (fun y11 h8 C9 S10 => (¬ y11 = 0 → ∃ fs18 : List Value, h8 x0 = some (.inr (0, fs18)) ∧ (wq_cq G l d C9 S10 mX1_keeps [.ref x0, .int (2 : Int32), .int x1] h8 (fun r17 h14 C15 S16 => wq_gR h14 x0 [(0, 6)] (fun a20 => ∃ fs24 : List Value, h14 a20 = some (.inr (6, fs24)) ∧ (wq_cw G l d C15 S16 mX7_forgets [.ref a20, .int x1] h14 (fun h21 C22 S23 => ∃ fs30 : List Value, h21 x0 = some (.inr (0, fs30)) ∧ (wq_ci G l d C22 S23 mX1_granted [.ref x0] h21 (fun y29 h26 C27 S28 => narrow .boolean (.int y29) = .int y29 ∧ K y29 h26)))))))) ∧ (y11 = 0 → ∃ fs36 : List Value, h8 x0 = some (.inr (0, fs36)) ∧ (wq_ci G l d C9 S10 mX1_denied [.ref x0, .int (5 : Int32)] h8 (fun y35 h32 C33 S34 => narrow .boolean (.int y35) = .int y35 ∧ K y35 h32))))))) ∧ (y4 = 0 → ∃ fs42 : List Value, h1 x0 = some (.inr (0, fs42)) ∧ (wq_ci G l d C2 S3 mX1_denied [.ref x0, .int (1 : Int32)] h1 (fun y41 h38 C39 S40 => narrow .boolean (.int y41) = .int y41 ∧ K y41 h38)))))) : wq_T G l d mX1_forget (wq_qi K) 0 [some (.ref x0), some (.int x1)] [] h C S := by
  refine wq_aload_n (pc := 0) dX1_forget_0 rfl rfl ?_
  refine wq_iload_n (pc := 1) dX1_forget_1 rfl rfl ?_
  obtain ⟨fs5, w6, V⟩ := V
  refine clq1059 (pc := 2) (As := [.int x1]) (st := []) rfl dX1_forget_2 rfl (Nat.le_of_ble_eq_true rfl) w6 V (fun C2 S3 => wx_ki (fun y4 h1 V => ?_))
  refine wq_if_ne (pc := 5) (tgt := 14) dX1_forget_5 rfl (fun c => ?_) (fun c => ?_)
  · have V := V.1 c
    refine wq_aload_n (pc := 14) dX1_forget_14 rfl rfl ?_
    refine gfq220 (pc := 15) rfl dX1_forget_15 V (fun a7 V => ?_)
    refine wq_iload_n (pc := 18) dX1_forget_18 rfl rfl ?_
    obtain ⟨fs12, w13, V⟩ := V
    refine clq1548 (pc := 19) (As := [.int x1]) (st := []) rfl dX1_forget_19 rfl (Nat.le_of_ble_eq_true rfl) w13 V (fun C9 S10 => wx_ki (fun y11 h8 V => ?_))
    refine wq_if_ne (pc := 22) (tgt := 31) dX1_forget_22 rfl (fun c => ?_) (fun c => ?_)
    · have V := V.1 c
      refine wq_aload_n (pc := 31) dX1_forget_31 rfl rfl ?_
      refine wq_iconst (pc := 32) dX1_forget_32 gsti2 ?_
      refine wq_iload_n (pc := 33) dX1_forget_33 rfl rfl ?_
      obtain ⟨fs18, w19, V⟩ := V
      refine clq1490 (pc := 34) (As := [.int (2 : Int32), .int x1]) (st := []) rfl dX1_forget_34 rfl (Nat.le_of_ble_eq_true rfl) w19 V (fun C15 S16 => wx_kq (fun r17 h14 V => ?_))
      refine wq_pop (pc := 37) dX1_forget_37 (wq_cat1 _) ?_
      refine wq_aload_n (pc := 38) dX1_forget_38 rfl rfl ?_
      refine gfq220 (pc := 39) rfl dX1_forget_39 V (fun a20 V => ?_)
      refine wq_iload_n (pc := 42) dX1_forget_42 rfl rfl ?_
      obtain ⟨fs24, w25, V⟩ := V
      refine clq1552 (pc := 43) (As := [.int x1]) (st := []) rfl dX1_forget_43 rfl (Nat.le_of_ble_eq_true rfl) w25 V (fun C22 S23 => wx_kv (fun h21 V => ?_))
      refine wq_aload_n (pc := 46) dX1_forget_46 rfl rfl ?_
      obtain ⟨fs30, w31, V⟩ := V
      refine clq1239 (pc := 47) (As := []) (st := []) rfl dX1_forget_47 rfl (Nat.le_of_ble_eq_true rfl) w31 V (fun C27 S28 => wx_ki (fun y29 h26 V => ?_))
      refine wq_zret (pc := 50) dX1_forget_50 rfl V.1 ⟨_, rfl, V.2⟩
    · have V := V.2 c
      refine wq_aload_n (pc := 25) dX1_forget_25 rfl rfl ?_
      refine wq_iconst (pc := 26) dX1_forget_26 gsti5 ?_
      obtain ⟨fs36, w37, V⟩ := V
      refine clq1235 (pc := 27) (As := [.int (5 : Int32)]) (st := []) rfl dX1_forget_27 rfl (Nat.le_of_ble_eq_true rfl) w37 V (fun C33 S34 => wx_ki (fun y35 h32 V => ?_))
      refine wq_zret (pc := 30) dX1_forget_30 rfl V.1 ⟨_, rfl, V.2⟩
  · have V := V.2 c
    refine wq_aload_n (pc := 8) dX1_forget_8 rfl rfl ?_
    refine wq_iconst (pc := 9) dX1_forget_9 gsti1 ?_
    obtain ⟨fs42, w43, V⟩ := V
    refine clq1235 (pc := 10) (As := [.int (1 : Int32)]) (st := []) rfl dX1_forget_10 rfl (Nat.le_of_ble_eq_true rfl) w43 V (fun C39 S40 => wx_ki (fun y41 h38 V => ?_))
    refine wq_zret (pc := 13) dX1_forget_13 rfl V.1 ⟨_, rfl, V.2⟩
theorem vX1_shift_0 {G : wq_G} {l : Launch} {d C S : Nat} {K : Int32 → wq_H → Prop} {x0 : Nat} {x1 : Int32} {x2 : Int32} {x3 : Int32} {x4 : Int32} {h : wq_H} (V : ∃ fs5 : List Value, h x0 = some (.inr (0, fs5)) ∧ (wq_ci G l d C S mX1_isOutcome [.ref x0, .int x1, .int x2] h (fun y4 h1 C2 S3 => (y4 = 0 → ∃ fs11 : List Value, h1 x0 = some (.inr (0, fs11)) ∧ (wq_ci G l d C2 S3 mX1_denied [.ref x0, .int (1 : Int32)] h1 (fun y10 h7 C8 S9 => narrow .boolean (.int y10) = .int y10 ∧ K y10 h7))) ∧ (¬ y4 = 0 → ∃ fs17 : List Value, h1 x0 = some (.inr (0, fs17)) ∧ (wq_ci G l d C2 S3 mX1_isOutcome [.ref x0, .int x1, .int x3] h1 (fun y16 h13 C14 S15 => (y16 = 0 → ∃ fs23 : List Value, h13 x0 = some (.inr (0, fs23)) ∧ (wq_ci G l d C14 S15 mX1_denied [.ref x0, .int (1 : Int32)] h13 (fun y22 h19 C20 S21 => narrow .boolean (.int y22) = .int y22 ∧ K y22 h19))) ∧ (¬ y16 = 0 → (¬ x2 = x3 → wq_ci G l d C14 S15 mX1_in [.int x4, .int (1 : Int32), .int (60 : Int32)] h13 (fun y28 h25 C26 S27 => (¬ y28 = 0 → wq_gR h25 x0 [(0, 6)] (fun a29 => ∃ fs34 : List Value, h25 a29 = some (.inr (6, fs34)) ∧ (wq_cq G l d C26 S27 mX7_set [.ref a29, .int x1] h25 (fun r33 h30 C31 S32 => ∃ a36, r33 = some a36 ∧ (wq_gR h30 a36 [(8, 0), (9, 0)] (fun a38 => wq_ai G h30 a38 x2 (fun y39 => (x4 ≤ y39 → ∃ fs44 : List Value, h30 x0 = some (.inr (0, fs44)) ∧ (wq_cq G l d C31 S32 mX1_keeps [.ref x0, .int (3 : Int32), .int x1] h30 (fun r43 h40 C41 S42 => ∃ a46, r43 = some a46 ∧ (wq_gR h40 a46 [(15, 0)] (fun a48 => wq_si G h40 a48 (2 : Int32) x2 (fun h49 => wq_gR h49 a46 [(15, 0)] (fun a50 => wq_si G h49 a50 (3 : Int32) x3 (fun h51 => wq_gR h51 a46 [(15, 0)] (fun a52 => wq_si G h51 a52 (4 : Int32) x4 (fun h53 => wq_gR h53 x0 [(0, 6)] (fun a54 => ∃ fs59 : List Value, h53 a54 = some (.inr (6, fs59)) ∧ (wq_cq G l d C41 S42 mX7_set [.ref a54, .int x1] h53 (fun r58 h55 C56 S57 => ∃ a61, r58 = some a61 ∧ (wq_gR h55 a61 [(8, 0), (9, 0)] (fun a63 => wq_ai G h55 a63 x2 (fun y64 => wq_si G h55 a63 x2 (y64 - x4) (fun h65 => wq_gR h65 x0 [(0, 6)] (fun a66 => ∃ fs71 : List Value, h65 a66 = some (.inr (6, fs71)) ∧ (wq_cq G l d C56 S57 mX7_set [.ref a66, .int x1] h65 (fun r70 h67 C68 S69 => ∃ a73, r70 = some a73 ∧ (wq_gR h67 a73 [(8, 0), (9, 0)] (fun a75 => wq_ai G h67 a75 x3 (fun y76 => wq_si G h67 a75 x3 (y76 + x4) (fun h77 => ∃ fs82 : List Value, h77 x0 = some (.inr (0, fs82)) ∧ (wq_ci G l d C68 S69 mX1_granted [.ref x0] h77 (fun y81 h78 C79 S80 => narrow .boolean (.int y81) = .int y81 ∧ K y81 h78)))))))))))))))))))))))))) ∧ (¬ x4 ≤ y39 → ∃ fs88 : List Value, h30 x0 = some (.inr (0, fs88)) ∧ (wq_ci G l d C31 S32 mX1_denied [.ref x0, .int (5 : Int32)] h30 (fun y87 h84 C85 S86 => narrow .boolean (.int y87) = .int y87 ∧ K y87 h84)))))))))) ∧ (y28 = 0 → ∃ fs94 : List Value, h25 x0 = some (.inr (0, fs94)) ∧ (wq_ci G l d C26 S27 mX1_denied [.ref x0, .int (2 : Int32)] h25 (fun y93 h90 C91 S92 => narrow .boolean (.int y93) = .int y93 ∧ K y93 h90))))) ∧ (x2 = x3 → ∃ fs100 : List Value, h13 x0 = some (.inr (0, fs100)) ∧ (wq_ci G l d C14 S15 mX1_denied [.ref x0, .int (1 : Int32)] h13 (fun y99 h96 C97 S98 => narrow .boolean (.int y99) = .int y99 ∧ K y99 h96)))))))))) : wq_T G l d mX1_shift (wq_qi K) 0 [some (.ref x0), some (.int x1), some (.int x2), some (.int x3), some (.int x4), none] [] h C S := by
  refine wq_aload_n (pc := 0) dX1_shift_0 rfl rfl ?_
  refine wq_iload_n (pc := 1) dX1_shift_1 rfl rfl ?_
  refine wq_iload_n (pc := 2) dX1_shift_2 rfl rfl ?_
  obtain ⟨fs5, w6, V⟩ := V
  refine clq1072 (pc := 3) (As := [.int x1, .int x2]) (st := []) rfl dX1_shift_3 rfl (Nat.le_of_ble_eq_true rfl) w6 V (fun C2 S3 => wx_ki (fun y4 h1 V => ?_))
  refine wq_if_eq (pc := 6) (tgt := 23) dX1_shift_6 rfl (fun c => ?_) (fun c => ?_)
  · have V := V.1 c
    refine wq_aload_n (pc := 23) dX1_shift_23 rfl rfl ?_
    refine wq_iconst (pc := 24) dX1_shift_24 gsti1 ?_
    obtain ⟨fs11, w12, V⟩ := V
    refine clq1235 (pc := 25) (As := [.int (1 : Int32)]) (st := []) rfl dX1_shift_25 rfl (Nat.le_of_ble_eq_true rfl) w12 V (fun C8 S9 => wx_ki (fun y10 h7 V => ?_))
    refine wq_zret (pc := 28) dX1_shift_28 rfl V.1 ⟨_, rfl, V.2⟩
  · have V := V.2 c
    refine wq_aload_n (pc := 9) dX1_shift_9 rfl rfl ?_
    refine wq_iload_n (pc := 10) dX1_shift_10 rfl rfl ?_
    refine wq_iload_n (pc := 11) dX1_shift_11 rfl rfl ?_
    obtain ⟨fs17, w18, V⟩ := V
    refine clq1072 (pc := 12) (As := [.int x1, .int x3]) (st := []) rfl dX1_shift_12 rfl (Nat.le_of_ble_eq_true rfl) w18 V (fun C14 S15 => wx_ki (fun y16 h13 V => ?_))
    refine wq_if_eq (pc := 15) (tgt := 23) dX1_shift_15 rfl (fun c => ?_) (fun c => ?_)
    · have V := V.1 c
      refine wq_aload_n (pc := 23) dX1_shift_23 rfl rfl ?_
      refine wq_iconst (pc := 24) dX1_shift_24 gsti1 ?_
      obtain ⟨fs23, w24, V⟩ := V
      refine clq1235 (pc := 25) (As := [.int (1 : Int32)]) (st := []) rfl dX1_shift_25 rfl (Nat.le_of_ble_eq_true rfl) w24 V (fun C20 S21 => wx_ki (fun y22 h19 V => ?_))
      refine wq_zret (pc := 28) dX1_shift_28 rfl V.1 ⟨_, rfl, V.2⟩
    · have V := V.2 c
      refine wq_iload_n (pc := 18) dX1_shift_18 rfl rfl ?_
      refine wq_iload_n (pc := 19) dX1_shift_19 rfl rfl ?_
      refine wq_icmp_ne (pc := 20) (tgt := 29) dX1_shift_20 rfl (fun c => ?_) (fun c => ?_)
      · have V := V.1 c
        refine wq_iload (pc := 29) dX1_shift_29 rfl ?_
        refine wq_iconst (pc := 31) dX1_shift_31 gsti1 ?_
        refine wq_bipush (pc := 32) dX1_shift_32 gstb60 ?_
        refine clq256 (pc := 34) (As := [.int x4, .int (1 : Int32), .int (60 : Int32)]) (st := []) rfl dX1_shift_34 rfl (Nat.le_of_ble_eq_true rfl) V (fun C26 S27 => wx_ki (fun y28 h25 V => ?_))
        refine wq_if_ne (pc := 37) (tgt := 46) dX1_shift_37 rfl (fun c => ?_) (fun c => ?_)
        · have V := V.1 c
          refine wq_aload_n (pc := 46) dX1_shift_46 rfl rfl ?_
          refine gfq220 (pc := 47) rfl dX1_shift_47 V (fun a29 V => ?_)
          refine wq_iload_n (pc := 50) dX1_shift_50 rfl rfl ?_
          obtain ⟨fs34, w35, V⟩ := V
          refine clq1116 (pc := 51) (As := [.int x1]) (st := []) rfl dX1_shift_51 rfl (Nat.le_of_ble_eq_true rfl) w35 V (fun C31 S32 => wx_kq (fun r33 h30 V => ?_))
          obtain ⟨a36, w37, V⟩ := V
          rw [w37]
          refine gfq840 (pc := 54) rfl dX1_shift_54 V (fun a38 V => ?_)
          refine wq_iload_n (pc := 57) dX1_shift_57 rfl rfl ?_
          refine wx_ai (pc := 58) dX1_shift_58 V (fun y39 V => ?_)
          refine wq_iload (pc := 59) dX1_shift_59 rfl ?_
          refine wq_icmp_ge (pc := 61) (tgt := 70) dX1_shift_61 rfl (fun c => ?_) (fun c => ?_)
          · have V := V.1 c
            refine wq_aload_n (pc := 70) dX1_shift_70 rfl rfl ?_
            refine wq_iconst (pc := 71) dX1_shift_71 gsti3 ?_
            refine wq_iload_n (pc := 72) dX1_shift_72 rfl rfl ?_
            obtain ⟨fs44, w45, V⟩ := V
            refine clq1490 (pc := 73) (As := [.int (3 : Int32), .int x1]) (st := []) rfl dX1_shift_73 rfl (Nat.le_of_ble_eq_true rfl) w45 V (fun C41 S42 => wx_kq (fun r43 h40 V => ?_))
            refine wq_astoreQ (L' := [some (.ref x0), some (.int x1), some (.int x2), some (.int x3), some (.int x4), some (va_rf r43)]) (pc := 76) dX1_shift_76 (Nat.le_of_ble_eq_true rfl) rfl ?_
            refine wq_aloadQ (pc := 78) dX1_shift_78 rfl ?_
            obtain ⟨a46, w47, V⟩ := V
            rw [w47]
            refine gfq1510 (pc := 80) rfl dX1_shift_80 V (fun a48 V => ?_)
            refine wq_iconst (pc := 83) dX1_shift_83 gsti2 ?_
            refine wq_iload_n (pc := 84) dX1_shift_84 rfl rfl ?_
            refine wx_si (pc := 85) dX1_shift_85 V (fun h49 V => ?_)
            refine wq_aload (pc := 86) dX1_shift_86 rfl ?_
            refine gfq1510 (pc := 88) rfl dX1_shift_88 V (fun a50 V => ?_)
            refine wq_iconst (pc := 91) dX1_shift_91 gsti3 ?_
            refine wq_iload_n (pc := 92) dX1_shift_92 rfl rfl ?_
            refine wx_si (pc := 93) dX1_shift_93 V (fun h51 V => ?_)
            refine wq_aload (pc := 94) dX1_shift_94 rfl ?_
            refine gfq1510 (pc := 96) rfl dX1_shift_96 V (fun a52 V => ?_)
            refine wq_iconst (pc := 99) dX1_shift_99 gsti4 ?_
            refine wq_iload (pc := 100) dX1_shift_100 rfl ?_
            refine wx_si (pc := 102) dX1_shift_102 V (fun h53 V => ?_)
            refine wq_aload_n (pc := 103) dX1_shift_103 rfl rfl ?_
            refine gfq220 (pc := 104) rfl dX1_shift_104 V (fun a54 V => ?_)
            refine wq_iload_n (pc := 107) dX1_shift_107 rfl rfl ?_
            obtain ⟨fs59, w60, V⟩ := V
            refine clq1116 (pc := 108) (As := [.int x1]) (st := []) rfl dX1_shift_108 rfl (Nat.le_of_ble_eq_true rfl) w60 V (fun C56 S57 => wx_kq (fun r58 h55 V => ?_))
            obtain ⟨a61, w62, V⟩ := V
            rw [w62]
            refine gfq840 (pc := 111) rfl dX1_shift_111 V (fun a63 V => ?_)
            refine wq_iload_n (pc := 114) dX1_shift_114 rfl rfl ?_
            refine wq_dup2 (pc := 115) dX1_shift_115 rfl rfl ?_
            refine wx_ai (pc := 116) dX1_shift_116 V (fun y64 V => ?_)
            refine wq_iload (pc := 117) dX1_shift_117 rfl ?_
            refine wq_isub (pc := 119) dX1_shift_119 ?_
            refine wx_si (pc := 120) dX1_shift_120 V (fun h65 V => ?_)
            refine wq_aload_n (pc := 121) dX1_shift_121 rfl rfl ?_
            refine gfq220 (pc := 122) rfl dX1_shift_122 V (fun a66 V => ?_)
            refine wq_iload_n (pc := 125) dX1_shift_125 rfl rfl ?_
            obtain ⟨fs71, w72, V⟩ := V
            refine clq1116 (pc := 126) (As := [.int x1]) (st := []) rfl dX1_shift_126 rfl (Nat.le_of_ble_eq_true rfl) w72 V (fun C68 S69 => wx_kq (fun r70 h67 V => ?_))
            obtain ⟨a73, w74, V⟩ := V
            rw [w74]
            refine gfq840 (pc := 129) rfl dX1_shift_129 V (fun a75 V => ?_)
            refine wq_iload_n (pc := 132) dX1_shift_132 rfl rfl ?_
            refine wq_dup2 (pc := 133) dX1_shift_133 rfl rfl ?_
            refine wx_ai (pc := 134) dX1_shift_134 V (fun y76 V => ?_)
            refine wq_iload (pc := 135) dX1_shift_135 rfl ?_
            refine wq_iadd (pc := 137) dX1_shift_137 ?_
            refine wx_si (pc := 138) dX1_shift_138 V (fun h77 V => ?_)
            refine wq_aload_n (pc := 139) dX1_shift_139 rfl rfl ?_
            obtain ⟨fs82, w83, V⟩ := V
            refine clq1239 (pc := 140) (As := []) (st := []) rfl dX1_shift_140 rfl (Nat.le_of_ble_eq_true rfl) w83 V (fun C79 S80 => wx_ki (fun y81 h78 V => ?_))
            refine wq_zret (pc := 143) dX1_shift_143 rfl V.1 ⟨_, rfl, V.2⟩
          · have V := V.2 c
            refine wq_aload_n (pc := 64) dX1_shift_64 rfl rfl ?_
            refine wq_iconst (pc := 65) dX1_shift_65 gsti5 ?_
            obtain ⟨fs88, w89, V⟩ := V
            refine clq1235 (pc := 66) (As := [.int (5 : Int32)]) (st := []) rfl dX1_shift_66 rfl (Nat.le_of_ble_eq_true rfl) w89 V (fun C85 S86 => wx_ki (fun y87 h84 V => ?_))
            refine wq_zret (pc := 69) dX1_shift_69 rfl V.1 ⟨_, rfl, V.2⟩
        · have V := V.2 c
          refine wq_aload_n (pc := 40) dX1_shift_40 rfl rfl ?_
          refine wq_iconst (pc := 41) dX1_shift_41 gsti2 ?_
          obtain ⟨fs94, w95, V⟩ := V
          refine clq1235 (pc := 42) (As := [.int (2 : Int32)]) (st := []) rfl dX1_shift_42 rfl (Nat.le_of_ble_eq_true rfl) w95 V (fun C91 S92 => wx_ki (fun y93 h90 V => ?_))
          refine wq_zret (pc := 45) dX1_shift_45 rfl V.1 ⟨_, rfl, V.2⟩
      · have V := V.2 c
        refine wq_aload_n (pc := 23) dX1_shift_23 rfl rfl ?_
        refine wq_iconst (pc := 24) dX1_shift_24 gsti1 ?_
        obtain ⟨fs100, w101, V⟩ := V
        refine clq1235 (pc := 25) (As := [.int (1 : Int32)]) (st := []) rfl dX1_shift_25 rfl (Nat.le_of_ble_eq_true rfl) w101 V (fun C97 S98 => wx_ki (fun y99 h96 V => ?_))
        refine wq_zret (pc := 28) dX1_shift_28 rfl V.1 ⟨_, rfl, V.2⟩
theorem vX1_undo_0 {G : wq_G} {l : Launch} {d C S : Nat} {K : Int32 → wq_H → Prop} {x0 : Nat} {h : wq_H} (V : wq_gR h x0 [(0, 8)] (fun a1 => wq_gR h x0 [(0, 9)] (fun a2 => ∃ fs7 : List Value, h x0 = some (.inr (0, fs7)) ∧ (wq_ci G l d C S mX1_steps [.ref x0, .ref a1, .ref a2] h (fun y6 h3 C4 S5 => narrow .boolean (.int y6) = .int y6 ∧ K y6 h3))))) : wq_T G l d mX1_undo (wq_qi K) 0 [some (.ref x0)] [] h C S := by
  refine wq_aload_n (pc := 0) dX1_undo_0 rfl rfl ?_
  refine wq_aload_n (pc := 1) dX1_undo_1 rfl rfl ?_
  refine gfq222 (pc := 2) rfl dX1_undo_2 V (fun a1 V => ?_)
  refine wq_aload_n (pc := 5) dX1_undo_5 rfl rfl ?_
  refine gfq223 (pc := 6) rfl dX1_undo_6 V (fun a2 V => ?_)
  obtain ⟨fs7, w8, V⟩ := V
  refine clq1580 (pc := 9) (As := [.ref a1, .ref a2]) (st := []) rfl dX1_undo_9 rfl (Nat.le_of_ble_eq_true rfl) w8 V (fun C4 S5 => wx_ki (fun y6 h3 V => ?_))
  refine wq_zret (pc := 12) dX1_undo_12 rfl V.1 ⟨_, rfl, V.2⟩
theorem vX1_steps_0 {G : wq_G} {l : Launch} {d C S : Nat} {K : Int32 → wq_H → Prop} {x0 : Nat} {x1 : Nat} {x2 : Nat} {h : wq_H} (V : ∃ fs5 : List Value, h x1 = some (.inr (16, fs5)) ∧ (wq_ci G l d C S mJ2_isEmpty [.ref x1] h (fun y4 h1 C2 S3 => (y4 = 0 → ∃ fs11 : List Value, h1 x1 = some (.inr (16, fs11)) ∧ (wq_ci G l d C2 S3 mJ2_size [.ref x1] h1 (fun y10 h7 C8 S9 => ∃ fs17 : List Value, h7 x1 = some (.inr (16, fs17)) ∧ (wq_cq G l d C8 S9 mJ2_remove [.ref x1, .int (y10 - (1 : Int32))] h7 (fun r16 h13 C14 S15 => wq_ct h13 r16 [15] (fun a19 => wq_no G h13 15 [.null, .null] 2 C14 S15 (fun a20 h21 => wq_gR h21 x0 [(0, 6)] (fun a22 => wq_cw G l d (C14 - 1) (S15 - 2) mX17_init_2 [.ref a20, .ref a22, .ref a19] h21 (fun h23 C24 S25 => ∃ fs30 : List Value, h23 x2 = some (.inr (16, fs30)) ∧ (wq_ci G l d C24 S25 mJ2_add [.ref x2, .ref a20] h23 (fun y29 h26 C27 S28 => wq_gR h26 a19 [(15, 1)] (fun a32 => ∃ fs37 : List Value, h26 a32 = some (.inr (6, fs37)) ∧ (wq_cq G l d C27 S28 mX7_copy [.ref a32, .int (0 : Int32)] h26 (fun r36 h33 C34 S35 => wq_pf G h33 x0 [(0, 6)] (va_rf r36) (fun h39 => ∃ fs44 : List Value, h39 x0 = some (.inr (0, fs44)) ∧ (wq_ci G l d C34 S35 mX1_granted [.ref x0] h39 (fun y43 h40 C41 S42 => narrow .boolean (.int y43) = .int y43 ∧ K y43 h40))))))))))))))))) ∧ (¬ y4 = 0 → ∃ fs50 : List Value, h1 x0 = some (.inr (0, fs50)) ∧ (wq_ci G l d C2 S3 mX1_denied [.ref x0, .int (6 : Int32)] h1 (fun y49 h46 C47 S48 => narrow .boolean (.int y49) = .int y49 ∧ K y49 h46)))))) : wq_T G l d mX1_steps (wq_qi K) 0 [some (.ref x0), some (.ref x1), some (.ref x2), none] [] h C S := by
  refine wq_aload_n (pc := 0) dX1_steps_0 rfl rfl ?_
  obtain ⟨fs5, w6, V⟩ := V
  refine clq1584 (pc := 1) (As := []) (st := []) rfl dX1_steps_1 rfl (Nat.le_of_ble_eq_true rfl) w6 V (fun C2 S3 => wx_ki (fun y4 h1 V => ?_))
  refine wq_if_eq (pc := 4) (tgt := 14) dX1_steps_4 rfl (fun c => ?_) (fun c => ?_)
  · have V := V.1 c
    refine wq_aload_n (pc := 14) dX1_steps_14 rfl rfl ?_
    refine wq_aload_n (pc := 15) dX1_steps_15 rfl rfl ?_
    obtain ⟨fs11, w12, V⟩ := V
    refine clq1283 (pc := 16) (As := []) (st := [.ref x1]) rfl dX1_steps_16 rfl (Nat.le_of_ble_eq_true rfl) w12 V (fun C8 S9 => wx_ki (fun y10 h7 V => ?_))
    refine wq_iconst (pc := 19) dX1_steps_19 gsti1 ?_
    refine wq_isub (pc := 20) dX1_steps_20 ?_
    obtain ⟨fs17, w18, V⟩ := V
    refine clq1494 (pc := 21) (As := [.int (y10 - (1 : Int32))]) (st := []) rfl dX1_steps_21 rfl (Nat.le_of_ble_eq_true rfl) w18 V (fun C14 S15 => wx_kq (fun r16 h13 V => ?_))
    refine ctq1503 (r := r16) (pc := 24) rfl dX1_steps_24 V (fun a19 V => ?_)
    refine wq_astore_n (L' := [some (.ref x0), some (.ref x1), some (.ref x2), some (.ref a19)]) (pc := 27) dX1_steps_27 rfl (Nat.le_of_ble_eq_true rfl) rfl ?_
    refine wq_aload_n (pc := 28) dX1_steps_28 rfl rfl ?_
    refine nwq1503 (pc := 29) rfl dX1_steps_29 V (fun a20 h21 V => ?_)
    refine wq_dup (pc := 32) dX1_steps_32 rfl ?_
    refine wq_aload_n (pc := 33) dX1_steps_33 rfl rfl ?_
    refine gfq220 (pc := 34) rfl dX1_steps_34 V (fun a22 V => ?_)
    refine wq_aload_n (pc := 37) dX1_steps_37 rfl rfl ?_
    refine clq1585 (pc := 38) (As := [.ref a22, .ref a19]) (st := [.ref a20, .ref x2]) rfl dX1_steps_38 rfl (Nat.le_of_ble_eq_true rfl) V (fun C24 S25 => wx_kv (fun h23 V => ?_))
    obtain ⟨fs30, w31, V⟩ := V
    refine clq1518 (pc := 41) (As := [.ref a20]) (st := []) rfl dX1_steps_41 rfl (Nat.le_of_ble_eq_true rfl) w31 V (fun C27 S28 => wx_ki (fun y29 h26 V => ?_))
    refine wq_pop (pc := 44) dX1_steps_44 rfl ?_
    refine wq_aload_n (pc := 45) dX1_steps_45 rfl rfl ?_
    refine wq_aload_n (pc := 46) dX1_steps_46 rfl rfl ?_
    refine gfq1512 (pc := 47) rfl dX1_steps_47 V (fun a32 V => ?_)
    refine wq_iconst (pc := 50) dX1_steps_50 gsti0 ?_
    obtain ⟨fs37, w38, V⟩ := V
    refine clq944 (pc := 51) (As := [.int (0 : Int32)]) (st := [.ref x0]) rfl dX1_steps_51 rfl (Nat.le_of_ble_eq_true rfl) w38 V (fun C34 S35 => wx_kq (fun r36 h33 V => ?_))
    refine pfq220 (pc := 54) rfl dX1_steps_54 (wq_nfr rfl r36) V (fun h39 V => ?_)
    refine wq_aload_n (pc := 57) dX1_steps_57 rfl rfl ?_
    obtain ⟨fs44, w45, V⟩ := V
    refine clq1239 (pc := 58) (As := []) (st := []) rfl dX1_steps_58 rfl (Nat.le_of_ble_eq_true rfl) w45 V (fun C41 S42 => wx_ki (fun y43 h40 V => ?_))
    refine wq_zret (pc := 61) dX1_steps_61 rfl V.1 ⟨_, rfl, V.2⟩
  · have V := V.2 c
    refine wq_aload_n (pc := 7) dX1_steps_7 rfl rfl ?_
    refine wq_bipush (pc := 8) dX1_steps_8 gstb6 ?_
    obtain ⟨fs50, w51, V⟩ := V
    refine clq1235 (pc := 10) (As := [.int (6 : Int32)]) (st := []) rfl dX1_steps_10 rfl (Nat.le_of_ble_eq_true rfl) w51 V (fun C47 S48 => wx_ki (fun y49 h46 V => ?_))
    refine wq_zret (pc := 13) dX1_steps_13 rfl V.1 ⟨_, rfl, V.2⟩
theorem vX1_redo_0 {G : wq_G} {l : Launch} {d C S : Nat} {K : Int32 → wq_H → Prop} {x0 : Nat} {h : wq_H} (V : wq_gR h x0 [(0, 9)] (fun a1 => wq_gR h x0 [(0, 8)] (fun a2 => ∃ fs7 : List Value, h x0 = some (.inr (0, fs7)) ∧ (wq_ci G l d C S mX1_steps [.ref x0, .ref a1, .ref a2] h (fun y6 h3 C4 S5 => narrow .boolean (.int y6) = .int y6 ∧ K y6 h3))))) : wq_T G l d mX1_redo (wq_qi K) 0 [some (.ref x0)] [] h C S := by
  refine wq_aload_n (pc := 0) dX1_redo_0 rfl rfl ?_
  refine wq_aload_n (pc := 1) dX1_redo_1 rfl rfl ?_
  refine gfq223 (pc := 2) rfl dX1_redo_2 V (fun a1 V => ?_)
  refine wq_aload_n (pc := 5) dX1_redo_5 rfl rfl ?_
  refine gfq222 (pc := 6) rfl dX1_redo_6 V (fun a2 V => ?_)
  obtain ⟨fs7, w8, V⟩ := V
  refine clq1580 (pc := 9) (As := [.ref a1, .ref a2]) (st := []) rfl dX1_redo_9 rfl (Nat.le_of_ble_eq_true rfl) w8 V (fun C4 S5 => wx_ki (fun y6 h3 V => ?_))
  refine wq_zret (pc := 12) dX1_redo_12 rfl V.1 ⟨_, rfl, V.2⟩
theorem vX1_mark_0 {G : wq_G} {l : Launch} {d C S : Nat} {K : Int32 → wq_H → Prop} {x0 : Nat} {h : wq_H} (V : wq_gQ h x0 [(0, 5)] (fun r1 => (r1 = none → ∃ fs7 : List Value, h x0 = some (.inr (0, fs7)) ∧ (wq_ci G l d C S mX1_refused [.ref x0, .int (1 : Int32)] h (fun y6 h3 C4 S5 => K y6 h3))) ∧ (∀ a2, r1 = some a2 → wq_gR h x0 [(0, 10)] (fun a9 => ∃ fs14 : List Value, h a9 = some (.inr (16, fs14)) ∧ (wq_ci G l d C S mJ2_size [.ref a9] h (fun y13 h10 C11 S12 => (¬ y13 = (4 : Int32) → wq_gR h10 x0 [(0, 10)] (fun a16 => wq_gR h10 x0 [(0, 6)] (fun a17 => ∃ fs22 : List Value, h10 a17 = some (.inr (6, fs22)) ∧ (wq_cq G l d C11 S12 mX7_copy [.ref a17, .int (0 : Int32)] h10 (fun r21 h18 C19 S20 => ∃ fs28 : List Value, h18 a16 = some (.inr (16, fs28)) ∧ (wq_ci G l d C19 S20 mJ2_add [.ref a16, va_rf r21] h18 (fun y27 h24 C25 S26 => wq_gR h24 x0 [(0, 10)] (fun a30 => ∃ fs35 : List Value, h24 a30 = some (.inr (16, fs35)) ∧ (wq_ci G l d C25 S26 mJ2_size [.ref a30] h24 (fun y34 h31 C32 S33 => ∃ fs41 : List Value, h31 x0 = some (.inr (0, fs41)) ∧ (wq_ci G l d C32 S33 mX1_well [.ref x0, .int (y34 - (1 : Int32))] h31 (fun y40 h37 C38 S39 => K y40 h37)))))))))))) ∧ (y13 = (4 : Int32) → ∃ fs47 : List Value, h10 x0 = some (.inr (0, fs47)) ∧ (wq_ci G l d C11 S12 mX1_refused [.ref x0, .int (3 : Int32)] h10 (fun y46 h43 C44 S45 => K y46 h43))))))))) : wq_T G l d mX1_mark (wq_qi K) 0 [some (.ref x0)] [] h C S := by
  refine wq_aload_n (pc := 0) dX1_mark_0 rfl rfl ?_
  refine gfq219 (pc := 1) rfl dX1_mark_1 V (fun r1 V => ?_)
  refine wq_ifnonnull (pc := 4) (tgt := 13) dX1_mark_4 rfl (fun a2 c => ?_) (fun c => ?_)
  · subst c
    have V := V.2 a2 rfl
    refine wq_aload_n (pc := 13) dX1_mark_13 rfl rfl ?_
    refine gfq224 (pc := 14) rfl dX1_mark_14 V (fun a9 V => ?_)
    obtain ⟨fs14, w15, V⟩ := V
    refine clq1283 (pc := 17) (As := []) (st := []) rfl dX1_mark_17 rfl (Nat.le_of_ble_eq_true rfl) w15 V (fun C11 S12 => wx_ki (fun y13 h10 V => ?_))
    refine wq_iconst (pc := 20) dX1_mark_20 gsti4 ?_
    refine wq_icmp_ne (pc := 21) (tgt := 30) dX1_mark_21 rfl (fun c => ?_) (fun c => ?_)
    · have V := V.1 c
      refine wq_aload_n (pc := 30) dX1_mark_30 rfl rfl ?_
      refine gfq224 (pc := 31) rfl dX1_mark_31 V (fun a16 V => ?_)
      refine wq_aload_n (pc := 34) dX1_mark_34 rfl rfl ?_
      refine gfq220 (pc := 35) rfl dX1_mark_35 V (fun a17 V => ?_)
      refine wq_iconst (pc := 38) dX1_mark_38 gsti0 ?_
      obtain ⟨fs22, w23, V⟩ := V
      refine clq944 (pc := 39) (As := [.int (0 : Int32)]) (st := [.ref a16]) rfl dX1_mark_39 rfl (Nat.le_of_ble_eq_true rfl) w23 V (fun C19 S20 => wx_kq (fun r21 h18 V => ?_))
      obtain ⟨fs28, w29, V⟩ := V
      refine clq1518 (pc := 42) (As := [va_rf r21]) (st := []) rfl dX1_mark_42 rfl (Nat.le_of_ble_eq_true rfl) w29 V (fun C25 S26 => wx_ki (fun y27 h24 V => ?_))
      refine wq_pop (pc := 45) dX1_mark_45 rfl ?_
      refine wq_aload_n (pc := 46) dX1_mark_46 rfl rfl ?_
      refine wq_aload_n (pc := 47) dX1_mark_47 rfl rfl ?_
      refine gfq224 (pc := 48) rfl dX1_mark_48 V (fun a30 V => ?_)
      obtain ⟨fs35, w36, V⟩ := V
      refine clq1283 (pc := 51) (As := []) (st := [.ref x0]) rfl dX1_mark_51 rfl (Nat.le_of_ble_eq_true rfl) w36 V (fun C32 S33 => wx_ki (fun y34 h31 V => ?_))
      refine wq_iconst (pc := 54) dX1_mark_54 gsti1 ?_
      refine wq_isub (pc := 55) dX1_mark_55 ?_
      obtain ⟨fs41, w42, V⟩ := V
      refine clq977 (pc := 56) (As := [.int (y34 - (1 : Int32))]) (st := []) rfl dX1_mark_56 rfl (Nat.le_of_ble_eq_true rfl) w42 V (fun C38 S39 => wx_ki (fun y40 h37 V => ?_))
      refine wq_iret (pc := 59) dX1_mark_59 rfl ⟨_, rfl, V⟩
    · have V := V.2 c
      refine wq_aload_n (pc := 24) dX1_mark_24 rfl rfl ?_
      refine wq_iconst (pc := 25) dX1_mark_25 gsti3 ?_
      obtain ⟨fs47, w48, V⟩ := V
      refine clq259 (pc := 26) (As := [.int (3 : Int32)]) (st := []) rfl dX1_mark_26 rfl (Nat.le_of_ble_eq_true rfl) w48 V (fun C44 S45 => wx_ki (fun y46 h43 V => ?_))
      refine wq_iret (pc := 29) dX1_mark_29 rfl ⟨_, rfl, V⟩
  · subst c
    have V := V.1 rfl
    refine wq_aload_n (pc := 7) dX1_mark_7 rfl rfl ?_
    refine wq_iconst (pc := 8) dX1_mark_8 gsti1 ?_
    obtain ⟨fs7, w8, V⟩ := V
    refine clq259 (pc := 9) (As := [.int (1 : Int32)]) (st := []) rfl dX1_mark_9 rfl (Nat.le_of_ble_eq_true rfl) w8 V (fun C4 S5 => wx_ki (fun y6 h3 V => ?_))
    refine wq_iret (pc := 12) dX1_mark_12 rfl ⟨_, rfl, V⟩
theorem vX1_back_0 {G : wq_G} {l : Launch} {d C S : Nat} {K : Int32 → wq_H → Prop} {x0 : Nat} {x1 : Int32} {h : wq_H} (V : wq_gR h x0 [(0, 10)] (fun a1 => ∃ fs6 : List Value, h a1 = some (.inr (16, fs6)) ∧ (wq_ci G l d C S mJ2_size [.ref a1] h (fun y5 h2 C3 S4 => wq_ci G l d C3 S4 mX1_in [.int x1, .int (0 : Int32), .int (y5 - (1 : Int32))] h2 (fun y11 h8 C9 S10 => (¬ y11 = 0 → wq_gR h8 x0 [(0, 10)] (fun a12 => ∃ fs17 : List Value, h8 a12 = some (.inr (16, fs17)) ∧ (wq_cq G l d C9 S10 mJ2_get [.ref a12, .int x1] h8 (fun r16 h13 C14 S15 => wq_ct h13 r16 [6] (fun a19 => ∃ fs24 : List Value, h13 a19 = some (.inr (6, fs24)) ∧ (wq_cq G l d C14 S15 mX7_copy [.ref a19, .int (0 : Int32)] h13 (fun r23 h20 C21 S22 => wq_pf G h20 x0 [(0, 6)] (va_rf r23) (fun h26 => wq_gR h26 x0 [(0, 8)] (fun a27 => ∃ fs31 : List Value, h26 a27 = some (.inr (16, fs31)) ∧ (wq_cw G l d C21 S22 mJ2_clear [.ref a27] h26 (fun h28 C29 S30 => wq_gR h28 x0 [(0, 9)] (fun a33 => ∃ fs37 : List Value, h28 a33 = some (.inr (16, fs37)) ∧ (wq_cw G l d C29 S30 mJ2_clear [.ref a33] h28 (fun h34 C35 S36 => ∃ fs43 : List Value, h34 x0 = some (.inr (0, fs43)) ∧ (wq_ci G l d C35 S36 mX1_granted [.ref x0] h34 (fun y42 h39 C40 S41 => narrow .boolean (.int y42) = .int y42 ∧ K y42 h39)))))))))))))))) ∧ (y11 = 0 → ∃ fs49 : List Value, h8 x0 = some (.inr (0, fs49)) ∧ (wq_ci G l d C9 S10 mX1_denied [.ref x0, .int (1 : Int32)] h8 (fun y48 h45 C46 S47 => narrow .boolean (.int y48) = .int y48 ∧ K y48 h45)))))))) : wq_T G l d mX1_back (wq_qi K) 0 [some (.ref x0), some (.int x1)] [] h C S := by
  refine wq_iload_n (pc := 0) dX1_back_0 rfl rfl ?_
  refine wq_iconst (pc := 1) dX1_back_1 gsti0 ?_
  refine wq_aload_n (pc := 2) dX1_back_2 rfl rfl ?_
  refine gfq224 (pc := 3) rfl dX1_back_3 V (fun a1 V => ?_)
  obtain ⟨fs6, w7, V⟩ := V
  refine clq1283 (pc := 6) (As := []) (st := [.int (0 : Int32), .int x1]) rfl dX1_back_6 rfl (Nat.le_of_ble_eq_true rfl) w7 V (fun C3 S4 => wx_ki (fun y5 h2 V => ?_))
  refine wq_iconst (pc := 9) dX1_back_9 gsti1 ?_
  refine wq_isub (pc := 10) dX1_back_10 ?_
  refine clq256 (pc := 11) (As := [.int x1, .int (0 : Int32), .int (y5 - (1 : Int32))]) (st := []) rfl dX1_back_11 rfl (Nat.le_of_ble_eq_true rfl) V (fun C9 S10 => wx_ki (fun y11 h8 V => ?_))
  refine wq_if_ne (pc := 14) (tgt := 23) dX1_back_14 rfl (fun c => ?_) (fun c => ?_)
  · have V := V.1 c
    refine wq_aload_n (pc := 23) dX1_back_23 rfl rfl ?_
    refine wq_aload_n (pc := 24) dX1_back_24 rfl rfl ?_
    refine gfq224 (pc := 25) rfl dX1_back_25 V (fun a12 V => ?_)
    refine wq_iload_n (pc := 28) dX1_back_28 rfl rfl ?_
    obtain ⟨fs17, w18, V⟩ := V
    refine clq1320 (pc := 29) (As := [.int x1]) (st := [.ref x0]) rfl dX1_back_29 rfl (Nat.le_of_ble_eq_true rfl) w18 V (fun C14 S15 => wx_kq (fun r16 h13 V => ?_))
    refine ctq1601 (r := r16) (pc := 32) rfl dX1_back_32 V (fun a19 V => ?_)
    refine wq_iconst (pc := 35) dX1_back_35 gsti0 ?_
    obtain ⟨fs24, w25, V⟩ := V
    refine clq944 (pc := 36) (As := [.int (0 : Int32)]) (st := [.ref x0]) rfl dX1_back_36 rfl (Nat.le_of_ble_eq_true rfl) w25 V (fun C21 S22 => wx_kq (fun r23 h20 V => ?_))
    refine pfq220 (pc := 39) rfl dX1_back_39 (wq_nfr rfl r23) V (fun h26 V => ?_)
    refine wq_aload_n (pc := 42) dX1_back_42 rfl rfl ?_
    refine gfq222 (pc := 43) rfl dX1_back_43 V (fun a27 V => ?_)
    obtain ⟨fs31, w32, V⟩ := V
    refine clq973 (pc := 46) (As := []) (st := []) rfl dX1_back_46 rfl (Nat.le_of_ble_eq_true rfl) w32 V (fun C29 S30 => wx_kv (fun h28 V => ?_))
    refine wq_aload_n (pc := 49) dX1_back_49 rfl rfl ?_
    refine gfq223 (pc := 50) rfl dX1_back_50 V (fun a33 V => ?_)
    obtain ⟨fs37, w38, V⟩ := V
    refine clq973 (pc := 53) (As := []) (st := []) rfl dX1_back_53 rfl (Nat.le_of_ble_eq_true rfl) w38 V (fun C35 S36 => wx_kv (fun h34 V => ?_))
    refine wq_aload_n (pc := 56) dX1_back_56 rfl rfl ?_
    obtain ⟨fs43, w44, V⟩ := V
    refine clq1239 (pc := 57) (As := []) (st := []) rfl dX1_back_57 rfl (Nat.le_of_ble_eq_true rfl) w44 V (fun C40 S41 => wx_ki (fun y42 h39 V => ?_))
    refine wq_zret (pc := 60) dX1_back_60 rfl V.1 ⟨_, rfl, V.2⟩
  · have V := V.2 c
    refine wq_aload_n (pc := 17) dX1_back_17 rfl rfl ?_
    refine wq_iconst (pc := 18) dX1_back_18 gsti1 ?_
    obtain ⟨fs49, w50, V⟩ := V
    refine clq1235 (pc := 19) (As := [.int (1 : Int32)]) (st := []) rfl dX1_back_19 rfl (Nat.le_of_ble_eq_true rfl) w50 V (fun C46 S47 => wx_ki (fun y48 h45 V => ?_))
    refine wq_zret (pc := 22) dX1_back_22 rfl V.1 ⟨_, rfl, V.2⟩
theorem vX1_act_0 {G : wq_G} {l : Launch} {d C S : Nat} {K : Int32 → wq_H → Prop} {x0 : Nat} {x1 : Int32} {x2 : Int32} {h : wq_H} (V : wq_gR h x0 [(0, 8)] (fun a1 => ∃ fs6 : List Value, h a1 = some (.inr (16, fs6)) ∧ (wq_ci G l d C S mJ2_size [.ref a1] h (fun y5 h2 C3 S4 => wq_ci G l d C3 S4 mX1_in [.int x1, .int (0 : Int32), .int (y5 - (1 : Int32))] h2 (fun y11 h8 C9 S10 => (y11 = 0 → ∃ fs16 : List Value, h8 x0 = some (.inr (0, fs16)) ∧ (wq_ci G l d C9 S10 mX1_refused [.ref x0, .int (1 : Int32)] h8 (fun y15 h12 C13 S14 => K y15 h12))) ∧ (¬ y11 = 0 → wq_ci G l d C9 S10 mX1_in [.int x2, .int (0 : Int32), .int (4 : Int32)] h8 (fun y21 h18 C19 S20 => (y21 = 0 → ∃ fs26 : List Value, h18 x0 = some (.inr (0, fs26)) ∧ (wq_ci G l d C19 S20 mX1_refused [.ref x0, .int (1 : Int32)] h18 (fun y25 h22 C23 S24 => K y25 h22))) ∧ (¬ y21 = 0 → wq_gR h18 x0 [(0, 8)] (fun a28 => ∃ fs33 : List Value, h18 a28 = some (.inr (16, fs33)) ∧ (wq_cq G l d C19 S20 mJ2_get [.ref a28, .int x1] h18 (fun r32 h29 C30 S31 => wq_ct h29 r32 [15] (fun a35 => wq_gR h29 a35 [(15, 0)] (fun a36 => wq_ai G h29 a36 x2 (fun y37 => ∃ fs42 : List Value, h29 x0 = some (.inr (0, fs42)) ∧ (wq_ci G l d C30 S31 mX1_well [.ref x0, .int y37] h29 (fun y41 h38 C39 S40 => K y41 h38)))))))))))))))) : wq_T G l d mX1_act (wq_qi K) 0 [some (.ref x0), some (.int x1), some (.int x2)] [] h C S := by
  refine wq_iload_n (pc := 0) dX1_act_0 rfl rfl ?_
  refine wq_iconst (pc := 1) dX1_act_1 gsti0 ?_
  refine wq_aload_n (pc := 2) dX1_act_2 rfl rfl ?_
  refine gfq222 (pc := 3) rfl dX1_act_3 V (fun a1 V => ?_)
  obtain ⟨fs6, w7, V⟩ := V
  refine clq1283 (pc := 6) (As := []) (st := [.int (0 : Int32), .int x1]) rfl dX1_act_6 rfl (Nat.le_of_ble_eq_true rfl) w7 V (fun C3 S4 => wx_ki (fun y5 h2 V => ?_))
  refine wq_iconst (pc := 9) dX1_act_9 gsti1 ?_
  refine wq_isub (pc := 10) dX1_act_10 ?_
  refine clq256 (pc := 11) (As := [.int x1, .int (0 : Int32), .int (y5 - (1 : Int32))]) (st := []) rfl dX1_act_11 rfl (Nat.le_of_ble_eq_true rfl) V (fun C9 S10 => wx_ki (fun y11 h8 V => ?_))
  refine wq_if_eq (pc := 14) (tgt := 49) dX1_act_14 rfl (fun c => ?_) (fun c => ?_)
  · have V := V.1 c
    refine wq_aload_n (pc := 49) dX1_act_49 rfl rfl ?_
    refine wq_iconst (pc := 50) dX1_act_50 gsti1 ?_
    obtain ⟨fs16, w17, V⟩ := V
    refine clq259 (pc := 51) (As := [.int (1 : Int32)]) (st := []) rfl dX1_act_51 rfl (Nat.le_of_ble_eq_true rfl) w17 V (fun C13 S14 => wx_ki (fun y15 h12 V => ?_))
    refine wq_iret (pc := 54) dX1_act_54 rfl ⟨_, rfl, V⟩
  · have V := V.2 c
    refine wq_iload_n (pc := 17) dX1_act_17 rfl rfl ?_
    refine wq_iconst (pc := 18) dX1_act_18 gsti0 ?_
    refine wq_iconst (pc := 19) dX1_act_19 gsti4 ?_
    refine clq256 (pc := 20) (As := [.int x2, .int (0 : Int32), .int (4 : Int32)]) (st := []) rfl dX1_act_20 rfl (Nat.le_of_ble_eq_true rfl) V (fun C19 S20 => wx_ki (fun y21 h18 V => ?_))
    refine wq_if_eq (pc := 23) (tgt := 49) dX1_act_23 rfl (fun c => ?_) (fun c => ?_)
    · have V := V.1 c
      refine wq_aload_n (pc := 49) dX1_act_49 rfl rfl ?_
      refine wq_iconst (pc := 50) dX1_act_50 gsti1 ?_
      obtain ⟨fs26, w27, V⟩ := V
      refine clq259 (pc := 51) (As := [.int (1 : Int32)]) (st := []) rfl dX1_act_51 rfl (Nat.le_of_ble_eq_true rfl) w27 V (fun C23 S24 => wx_ki (fun y25 h22 V => ?_))
      refine wq_iret (pc := 54) dX1_act_54 rfl ⟨_, rfl, V⟩
    · have V := V.2 c
      refine wq_aload_n (pc := 26) dX1_act_26 rfl rfl ?_
      refine wq_aload_n (pc := 27) dX1_act_27 rfl rfl ?_
      refine gfq222 (pc := 28) rfl dX1_act_28 V (fun a28 V => ?_)
      refine wq_iload_n (pc := 31) dX1_act_31 rfl rfl ?_
      obtain ⟨fs33, w34, V⟩ := V
      refine clq1320 (pc := 32) (As := [.int x1]) (st := [.ref x0]) rfl dX1_act_32 rfl (Nat.le_of_ble_eq_true rfl) w34 V (fun C30 S31 => wx_kq (fun r32 h29 V => ?_))
      refine ctq1503 (r := r32) (pc := 35) rfl dX1_act_35 V (fun a35 V => ?_)
      refine gfq1510 (pc := 38) rfl dX1_act_38 V (fun a36 V => ?_)
      refine wq_iload_n (pc := 41) dX1_act_41 rfl rfl ?_
      refine wx_ai (pc := 42) dX1_act_42 V (fun y37 V => ?_)
      obtain ⟨fs42, w43, V⟩ := V
      refine clq977 (pc := 43) (As := [.int y37]) (st := []) rfl dX1_act_43 rfl (Nat.le_of_ble_eq_true rfl) w43 V (fun C39 S40 => wx_ki (fun y41 h38 V => ?_))
      refine wq_goto (pc := 46) (tgt := 54) dX1_act_46 rfl ?_
      refine wq_iret (pc := 54) dX1_act_54 rfl ⟨_, rfl, V⟩
theorem vX1_times_0 {G : wq_G} {l : Launch} {d C S : Nat} {K : Int32 → wq_H → Prop} {x0 : Nat} {x1 : Int32} {x2 : Int32} {h : wq_H} (V : ∃ fs5 : List Value, h x0 = some (.inr (0, fs5)) ∧ (wq_ci G l d C S mX1_isOutcome [.ref x0, .int x1, .int x2] h (fun y4 h1 C2 S3 => (y4 = 0 → ∃ fs11 : List Value, h1 x0 = some (.inr (0, fs11)) ∧ (wq_ci G l d C2 S3 mX1_refused [.ref x0, .int (1 : Int32)] h1 (fun y10 h7 C8 S9 => K y10 h7))) ∧ (¬ y4 = 0 → wq_gR h1 x0 [(0, 6)] (fun a13 => ∃ fs18 : List Value, h1 a13 = some (.inr (6, fs18)) ∧ (wq_cq G l d C2 S3 mX7_set [.ref a13, .int x1] h1 (fun r17 h14 C15 S16 => ∃ a20, r17 = some a20 ∧ (wq_gR h14 a20 [(8, 0), (9, 0)] (fun a22 => wq_ai G h14 a22 x2 (fun y23 => ∃ fs28 : List Value, h14 x0 = some (.inr (0, fs28)) ∧ (wq_ci G l d C15 S16 mX1_well [.ref x0, .int y23] h14 (fun y27 h24 C25 S26 => K y27 h24)))))))))))) : wq_T G l d mX1_times (wq_qi K) 0 [some (.ref x0), some (.int x1), some (.int x2)] [] h C S := by
  refine wq_aload_n (pc := 0) dX1_times_0 rfl rfl ?_
  refine wq_iload_n (pc := 1) dX1_times_1 rfl rfl ?_
  refine wq_iload_n (pc := 2) dX1_times_2 rfl rfl ?_
  obtain ⟨fs5, w6, V⟩ := V
  refine clq1072 (pc := 3) (As := [.int x1, .int x2]) (st := []) rfl dX1_times_3 rfl (Nat.le_of_ble_eq_true rfl) w6 V (fun C2 S3 => wx_ki (fun y4 h1 V => ?_))
  refine wq_if_eq (pc := 6) (tgt := 29) dX1_times_6 rfl (fun c => ?_) (fun c => ?_)
  · have V := V.1 c
    refine wq_aload_n (pc := 29) dX1_times_29 rfl rfl ?_
    refine wq_iconst (pc := 30) dX1_times_30 gsti1 ?_
    obtain ⟨fs11, w12, V⟩ := V
    refine clq259 (pc := 31) (As := [.int (1 : Int32)]) (st := []) rfl dX1_times_31 rfl (Nat.le_of_ble_eq_true rfl) w12 V (fun C8 S9 => wx_ki (fun y10 h7 V => ?_))
    refine wq_iret (pc := 34) dX1_times_34 rfl ⟨_, rfl, V⟩
  · have V := V.2 c
    refine wq_aload_n (pc := 9) dX1_times_9 rfl rfl ?_
    refine wq_aload_n (pc := 10) dX1_times_10 rfl rfl ?_
    refine gfq220 (pc := 11) rfl dX1_times_11 V (fun a13 V => ?_)
    refine wq_iload_n (pc := 14) dX1_times_14 rfl rfl ?_
    obtain ⟨fs18, w19, V⟩ := V
    refine clq1116 (pc := 15) (As := [.int x1]) (st := [.ref x0]) rfl dX1_times_15 rfl (Nat.le_of_ble_eq_true rfl) w19 V (fun C15 S16 => wx_kq (fun r17 h14 V => ?_))
    obtain ⟨a20, w21, V⟩ := V
    rw [w21]
    refine gfq840 (pc := 18) rfl dX1_times_18 V (fun a22 V => ?_)
    refine wq_iload_n (pc := 21) dX1_times_21 rfl rfl ?_
    refine wx_ai (pc := 22) dX1_times_22 V (fun y23 V => ?_)
    obtain ⟨fs28, w29, V⟩ := V
    refine clq977 (pc := 23) (As := [.int y23]) (st := []) rfl dX1_times_23 rfl (Nat.le_of_ble_eq_true rfl) w29 V (fun C25 S26 => wx_ki (fun y27 h24 V => ?_))
    refine wq_goto (pc := 26) (tgt := 34) dX1_times_26 rfl ?_
    refine wq_iret (pc := 34) dX1_times_34 rfl ⟨_, rfl, V⟩
theorem vX1_look_0 {G : wq_G} {l : Launch} {d C S : Nat} {K : Int32 → wq_H → Prop} {x0 : Nat} {x1 : Int32} {x2 : Int32} {h : wq_H} (V : ∃ fs5 : List Value, h x0 = some (.inr (0, fs5)) ∧ (wq_ci G l d C S mX1_isSet [.ref x0, .int x1] h (fun y4 h1 C2 S3 => (y4 = 0 → ∃ fs11 : List Value, h1 x0 = some (.inr (0, fs11)) ∧ (wq_ci G l d C2 S3 mX1_refused [.ref x0, .int (1 : Int32)] h1 (fun y10 h7 C8 S9 => K y10 h7))) ∧ (¬ y4 = 0 → (x2 = 0 → wq_gR h1 x0 [(0, 6)] (fun a13 => ∃ fs18 : List Value, h1 a13 = some (.inr (6, fs18)) ∧ (wq_cq G l d C2 S3 mX7_set [.ref a13, .int x1] h1 (fun r17 h14 C15 S16 => ∃ a20, r17 = some a20 ∧ ((∃ fs26 : List Value, h14 a20 = some (.inr (8, fs26)) ∧ wq_ci G l d C15 S16 mX10_first [.ref a20] h14 (fun y25 h22 C23 S24 => ∃ fs32 : List Value, h22 x0 = some (.inr (0, fs32)) ∧ (wq_ci G l d C23 S24 mX1_well [.ref x0, .int y25] h22 (fun y31 h28 C29 S30 => K y31 h28)))) ∨ (∃ fs26 : List Value, h14 a20 = some (.inr (9, fs26)) ∧ wq_ci G l d C15 S16 mX11_first [.ref a20] h14 (fun y25 h22 C23 S24 => ∃ fs32 : List Value, h22 x0 = some (.inr (0, fs32)) ∧ (wq_ci G l d C23 S24 mX1_well [.ref x0, .int y25] h22 (fun y31 h28 C29 S30 => K y31 h28))))))))) ∧ (¬ x2 = 0 → wq_gR h1 x0 [(0, 6)] (fun a34 => ∃ fs39 : List Value, h1 a34 = some (.inr (6, fs39)) ∧ (wq_cq G l d C2 S3 mX7_set [.ref a34, .int x1] h1 (fun r38 h35 C36 S37 => ∃ a41, r38 = some a41 ∧ ((∃ fs47 : List Value, h35 a41 = some (.inr (8, fs47)) ∧ wq_ci G l d C36 S37 mX10_second [.ref a41] h35 (fun y46 h43 C44 S45 => ∃ fs53 : List Value, h43 x0 = some (.inr (0, fs53)) ∧ (wq_ci G l d C44 S45 mX1_well [.ref x0, .int y46] h43 (fun y52 h49 C50 S51 => K y52 h49)))) ∨ (∃ fs47 : List Value, h35 a41 = some (.inr (9, fs47)) ∧ wq_ci G l d C36 S37 mX11_second [.ref a41] h35 (fun y46 h43 C44 S45 => ∃ fs53 : List Value, h43 x0 = some (.inr (0, fs53)) ∧ (wq_ci G l d C44 S45 mX1_well [.ref x0, .int y46] h43 (fun y52 h49 C50 S51 => K y52 h49))))))))))))) : wq_T G l d mX1_look (wq_qi K) 0 [some (.ref x0), some (.int x1), some (.int x2)] [] h C S := by
  refine wq_aload_n (pc := 0) dX1_look_0 rfl rfl ?_
  refine wq_iload_n (pc := 1) dX1_look_1 rfl rfl ?_
  obtain ⟨fs5, w6, V⟩ := V
  refine clq1173 (pc := 2) (As := [.int x1]) (st := []) rfl dX1_look_2 rfl (Nat.le_of_ble_eq_true rfl) w6 V (fun C2 S3 => wx_ki (fun y4 h1 V => ?_))
  refine wq_if_eq (pc := 5) (tgt := 44) dX1_look_5 rfl (fun c => ?_) (fun c => ?_)
  · have V := V.1 c
    refine wq_aload_n (pc := 44) dX1_look_44 rfl rfl ?_
    refine wq_iconst (pc := 45) dX1_look_45 gsti1 ?_
    obtain ⟨fs11, w12, V⟩ := V
    refine clq259 (pc := 46) (As := [.int (1 : Int32)]) (st := []) rfl dX1_look_46 rfl (Nat.le_of_ble_eq_true rfl) w12 V (fun C8 S9 => wx_ki (fun y10 h7 V => ?_))
    refine wq_iret (pc := 49) dX1_look_49 rfl ⟨_, rfl, V⟩
  · have V := V.2 c
    refine wq_aload_n (pc := 8) dX1_look_8 rfl rfl ?_
    refine wq_iload_n (pc := 9) dX1_look_9 rfl rfl ?_
    refine wq_if_eq (pc := 10) (tgt := 27) dX1_look_10 rfl (fun c => ?_) (fun c => ?_)
    · have V := V.1 c
      refine wq_aload_n (pc := 27) dX1_look_27 rfl rfl ?_
      refine gfq220 (pc := 28) rfl dX1_look_28 V (fun a13 V => ?_)
      refine wq_iload_n (pc := 31) dX1_look_31 rfl rfl ?_
      obtain ⟨fs18, w19, V⟩ := V
      refine clq1116 (pc := 32) (As := [.int x1]) (st := [.ref x0]) rfl dX1_look_32 rfl (Nat.le_of_ble_eq_true rfl) w19 V (fun C15 S16 => wx_kq (fun r17 h14 V => ?_))
      obtain ⟨a20, w21, V⟩ := V
      rw [w21]
      have T : ∀ C23 S24 y25 h22, (∃ fs32 : List Value, h22 x0 = some (.inr (0, fs32)) ∧ (wq_ci G l d C23 S24 mX1_well [.ref x0, .int y25] h22 (fun y31 h28 C29 S30 => K y31 h28))) → wq_T G l d mX1_look (wq_qi K) 38 [some (.ref x0), some (.int x1), some (.int x2)] [.int y25, .ref x0] h22 C23 S24 := by
        intro C23 S24 y25 h22 V
        obtain ⟨fs32, w33, V⟩ := V
        refine clq977 (pc := 38) (As := [.int y25]) (st := []) rfl dX1_look_38 rfl (Nat.le_of_ble_eq_true rfl) w33 V (fun C29 S30 => wx_ki (fun y31 h28 V => ?_))
        refine wq_goto (pc := 41) (tgt := 49) dX1_look_41 rfl ?_
        refine wq_iret (pc := 49) dX1_look_49 rfl ⟨_, rfl, V⟩
      rcases V with ⟨fs26, w27, V⟩ | ⟨fs26, w27, V⟩
      · exact clq1615_8 (pc := 35) (As := []) (st := [.ref x0]) rfl dX1_look_35 rfl (Nat.le_of_ble_eq_true rfl) w27 V (fun C23 S24 => wx_ki (fun y25 h22 V => T C23 S24 y25 h22 V))
      · exact clq1615_9 (pc := 35) (As := []) (st := [.ref x0]) rfl dX1_look_35 rfl (Nat.le_of_ble_eq_true rfl) w27 V (fun C23 S24 => wx_ki (fun y25 h22 V => T C23 S24 y25 h22 V))
    · have V := V.2 c
      refine wq_aload_n (pc := 13) dX1_look_13 rfl rfl ?_
      refine gfq220 (pc := 14) rfl dX1_look_14 V (fun a34 V => ?_)
      refine wq_iload_n (pc := 17) dX1_look_17 rfl rfl ?_
      obtain ⟨fs39, w40, V⟩ := V
      refine clq1116 (pc := 18) (As := [.int x1]) (st := [.ref x0]) rfl dX1_look_18 rfl (Nat.le_of_ble_eq_true rfl) w40 V (fun C36 S37 => wx_kq (fun r38 h35 V => ?_))
      obtain ⟨a41, w42, V⟩ := V
      rw [w42]
      have T : ∀ C44 S45 y46 h43, (∃ fs53 : List Value, h43 x0 = some (.inr (0, fs53)) ∧ (wq_ci G l d C44 S45 mX1_well [.ref x0, .int y46] h43 (fun y52 h49 C50 S51 => K y52 h49))) → wq_T G l d mX1_look (wq_qi K) 24 [some (.ref x0), some (.int x1), some (.int x2)] [.int y46, .ref x0] h43 C44 S45 := by
        intro C44 S45 y46 h43 V
        refine wq_goto (pc := 24) (tgt := 38) dX1_look_24 rfl ?_
        obtain ⟨fs53, w54, V⟩ := V
        refine clq977 (pc := 38) (As := [.int y46]) (st := []) rfl dX1_look_38 rfl (Nat.le_of_ble_eq_true rfl) w54 V (fun C50 S51 => wx_ki (fun y52 h49 V => ?_))
        refine wq_goto (pc := 41) (tgt := 49) dX1_look_41 rfl ?_
        refine wq_iret (pc := 49) dX1_look_49 rfl ⟨_, rfl, V⟩
      rcases V with ⟨fs47, w48, V⟩ | ⟨fs47, w48, V⟩
      · exact clq1614_8 (pc := 21) (As := []) (st := [.ref x0]) rfl dX1_look_21 rfl (Nat.le_of_ble_eq_true rfl) w48 V (fun C44 S45 => wx_ki (fun y46 h43 V => T C44 S45 y46 h43 V))
      · exact clq1614_9 (pc := 21) (As := []) (st := [.ref x0]) rfl dX1_look_21 rfl (Nat.le_of_ble_eq_true rfl) w48 V (fun C44 S45 => wx_ki (fun y46 h43 V => T C44 S45 y46 h43 V))
theorem vX1_coins_0 {G : wq_G} {l : Launch} {d C S : Nat} {K : Int32 → wq_H → Prop} {x0 : Nat} {x1 : Int32} {x2 : Int32} {h : wq_H} (V : ∃ fs5 : List Value, h x0 = some (.inr (0, fs5)) ∧ (wq_ci G l d C S mX1_isOutcome [.ref x0, .int x1, .int x2] h (fun y4 h1 C2 S3 => (y4 = 0 → ∃ fs11 : List Value, h1 x0 = some (.inr (0, fs11)) ∧ (wq_ci G l d C2 S3 mX1_refused [.ref x0, .int (1 : Int32)] h1 (fun y10 h7 C8 S9 => K y10 h7))) ∧ (¬ y4 = 0 → wq_gR h1 x0 [(0, 6)] (fun a13 => ∃ fs18 : List Value, h1 a13 = some (.inr (6, fs18)) ∧ (wq_cq G l d C2 S3 mX7_set [.ref a13, .int x1] h1 (fun r17 h14 C15 S16 => ∃ a20, r17 = some a20 ∧ (wq_gR h14 a20 [(8, 1), (9, 1)] (fun a22 => wq_ai G h14 a22 x2 (fun y23 => ∃ fs28 : List Value, h14 x0 = some (.inr (0, fs28)) ∧ (wq_ci G l d C15 S16 mX1_well [.ref x0, .int y23] h14 (fun y27 h24 C25 S26 => K y27 h24)))))))))))) : wq_T G l d mX1_coins (wq_qi K) 0 [some (.ref x0), some (.int x1), some (.int x2)] [] h C S := by
  refine wq_aload_n (pc := 0) dX1_coins_0 rfl rfl ?_
  refine wq_iload_n (pc := 1) dX1_coins_1 rfl rfl ?_
  refine wq_iload_n (pc := 2) dX1_coins_2 rfl rfl ?_
  obtain ⟨fs5, w6, V⟩ := V
  refine clq1072 (pc := 3) (As := [.int x1, .int x2]) (st := []) rfl dX1_coins_3 rfl (Nat.le_of_ble_eq_true rfl) w6 V (fun C2 S3 => wx_ki (fun y4 h1 V => ?_))
  refine wq_if_eq (pc := 6) (tgt := 29) dX1_coins_6 rfl (fun c => ?_) (fun c => ?_)
  · have V := V.1 c
    refine wq_aload_n (pc := 29) dX1_coins_29 rfl rfl ?_
    refine wq_iconst (pc := 30) dX1_coins_30 gsti1 ?_
    obtain ⟨fs11, w12, V⟩ := V
    refine clq259 (pc := 31) (As := [.int (1 : Int32)]) (st := []) rfl dX1_coins_31 rfl (Nat.le_of_ble_eq_true rfl) w12 V (fun C8 S9 => wx_ki (fun y10 h7 V => ?_))
    refine wq_iret (pc := 34) dX1_coins_34 rfl ⟨_, rfl, V⟩
  · have V := V.2 c
    refine wq_aload_n (pc := 9) dX1_coins_9 rfl rfl ?_
    refine wq_aload_n (pc := 10) dX1_coins_10 rfl rfl ?_
    refine gfq220 (pc := 11) rfl dX1_coins_11 V (fun a13 V => ?_)
    refine wq_iload_n (pc := 14) dX1_coins_14 rfl rfl ?_
    obtain ⟨fs18, w19, V⟩ := V
    refine clq1116 (pc := 15) (As := [.int x1]) (st := [.ref x0]) rfl dX1_coins_15 rfl (Nat.le_of_ble_eq_true rfl) w19 V (fun C15 S16 => wx_kq (fun r17 h14 V => ?_))
    obtain ⟨a20, w21, V⟩ := V
    rw [w21]
    refine gfq843 (pc := 18) rfl dX1_coins_18 V (fun a22 V => ?_)
    refine wq_iload_n (pc := 21) dX1_coins_21 rfl rfl ?_
    refine wx_ai (pc := 22) dX1_coins_22 V (fun y23 V => ?_)
    obtain ⟨fs28, w29, V⟩ := V
    refine clq977 (pc := 23) (As := [.int y23]) (st := []) rfl dX1_coins_23 rfl (Nat.le_of_ble_eq_true rfl) w29 V (fun C25 S26 => wx_ki (fun y27 h24 V => ?_))
    refine wq_goto (pc := 26) (tgt := 34) dX1_coins_26 rfl ?_
    refine wq_iret (pc := 34) dX1_coins_34 rfl ⟨_, rfl, V⟩
theorem vX1_size_0 {G : wq_G} {l : Launch} {d C S : Nat} {K : Int32 → wq_H → Prop} {x0 : Nat} {x1 : Int32} {h : wq_H} (V : (¬ x1 = (10 : Int32) → wq_ci G l d C S mX1_in [.int x1, .int (0 : Int32), .int (9 : Int32)] h (fun y4 h1 C2 S3 => (¬ y4 = 0 → wq_gQ h1 x0 [(0, 5)] (fun r5 => (r5 = none → K (0 : Int32) h1) ∧ (∀ a6, r5 = some a6 → (x1.toInt < 0 ∨ 8 < x1.toInt → wq_gR h1 x0 [(0, 10)] (fun a7 => ∃ fs12 : List Value, h1 a7 = some (.inr (16, fs12)) ∧ (wq_ci G l d C2 S3 mJ2_size [.ref a7] h1 (fun y11 h8 C9 S10 => K y11 h8)))) ∧ (x1.toInt = 0 → wq_gQ h1 x0 [(0, 5)] (fun r14 => ∃ a15, r14 = some a15 ∧ (wq_gI h1 a15 [(5, 1)] (fun y17 => K y17 h1)))) ∧ (x1.toInt = 1 → wq_gQ h1 x0 [(0, 5)] (fun r18 => ∃ a19, r18 = some a19 ∧ (wq_gI h1 a19 [(5, 2)] (fun y21 => K y21 h1)))) ∧ (x1.toInt = 2 → wq_gR h1 x0 [(0, 6)] (fun a22 => ∃ fs27 : List Value, h1 a22 = some (.inr (6, fs27)) ∧ (wq_ci G l d C2 S3 mX7_size [.ref a22] h1 (fun y26 h23 C24 S25 => K y26 h23)))) ∧ (x1.toInt = 3 → wq_gQ h1 x0 [(0, 5)] (fun r29 => ∃ a30, r29 = some a30 ∧ (wq_gR h1 a30 [(5, 4)] (fun a32 => ∃ fs37 : List Value, h1 a32 = some (.inr (16, fs37)) ∧ (wq_ci G l d C2 S3 mJ2_size [.ref a32] h1 (fun y36 h33 C34 S35 => K y36 h33)))))) ∧ (x1.toInt = 4 → wq_gQ h1 x0 [(0, 5)] (fun r39 => ∃ a40, r39 = some a40 ∧ (wq_gR h1 a40 [(5, 5)] (fun a42 => ∃ fs47 : List Value, h1 a42 = some (.inr (16, fs47)) ∧ (wq_ci G l d C2 S3 mJ2_size [.ref a42] h1 (fun y46 h43 C44 S45 => K y46 h43)))))) ∧ (x1.toInt = 5 → wq_gQ h1 x0 [(0, 5)] (fun r49 => ∃ a50, r49 = some a50 ∧ (wq_gR h1 a50 [(5, 6)] (fun a52 => ∃ fs57 : List Value, h1 a52 = some (.inr (16, fs57)) ∧ (wq_ci G l d C2 S3 mJ2_size [.ref a52] h1 (fun y56 h53 C54 S55 => K y56 h53)))))) ∧ (x1.toInt = 6 → wq_gQ h1 x0 [(0, 5)] (fun r59 => ∃ a60, r59 = some a60 ∧ (wq_gI h1 a60 [(5, 0)] (fun y62 => K y62 h1)))) ∧ (x1.toInt = 7 → wq_gR h1 x0 [(0, 8)] (fun a63 => ∃ fs68 : List Value, h1 a63 = some (.inr (16, fs68)) ∧ (wq_ci G l d C2 S3 mJ2_size [.ref a63] h1 (fun y67 h64 C65 S66 => K y67 h64)))) ∧ (x1.toInt = 8 → wq_gR h1 x0 [(0, 9)] (fun a70 => ∃ fs75 : List Value, h1 a70 = some (.inr (16, fs75)) ∧ (wq_ci G l d C2 S3 mJ2_size [.ref a70] h1 (fun y74 h71 C72 S73 => K y74 h71))))))) ∧ (y4 = 0 → K (-1 : Int32) h1))) ∧ (x1 = (10 : Int32) → wq_gI h x0 [(0, 1)] (fun y77 => K y77 h))) : wq_T G l d mX1_size (wq_qi K) 0 [some (.ref x0), some (.int x1)] [] h C S := by
  refine wq_iload_n (pc := 0) dX1_size_0 rfl rfl ?_
  refine wq_bipush (pc := 1) dX1_size_1 gstb10 ?_
  refine wq_icmp_ne (pc := 3) (tgt := 11) dX1_size_3 rfl (fun c => ?_) (fun c => ?_)
  · have V := V.1 c
    refine wq_iload_n (pc := 11) dX1_size_11 rfl rfl ?_
    refine wq_iconst (pc := 12) dX1_size_12 gsti0 ?_
    refine wq_bipush (pc := 13) dX1_size_13 gstb9 ?_
    refine clq256 (pc := 15) (As := [.int x1, .int (0 : Int32), .int (9 : Int32)]) (st := []) rfl dX1_size_15 rfl (Nat.le_of_ble_eq_true rfl) V (fun C2 S3 => wx_ki (fun y4 h1 V => ?_))
    refine wq_if_ne (pc := 18) (tgt := 23) dX1_size_18 rfl (fun c => ?_) (fun c => ?_)
    · have V := V.1 c
      refine wq_aload_n (pc := 23) dX1_size_23 rfl rfl ?_
      refine gfq219 (pc := 24) rfl dX1_size_24 V (fun r5 V => ?_)
      refine wq_ifnonnull (pc := 27) (tgt := 32) dX1_size_27 rfl (fun a6 c => ?_) (fun c => ?_)
      · subst c
        have V := V.2 a6 rfl
        refine wq_iload_n (pc := 32) dX1_size_32 rfl rfl ?_
        by_cases c : x1.toInt < 0 ∨ 8 < x1.toInt
        · refine wq_tableOut (pc := 33) (tgt := 165) dX1_size_33 c rfl ?_
          have V := V.1 c
          refine wq_aload_n (pc := 165) dX1_size_165 rfl rfl ?_
          refine gfq224 (pc := 166) rfl dX1_size_166 V (fun a7 V => ?_)
          obtain ⟨fs12, w13, V⟩ := V
          refine clq1283 (pc := 169) (As := []) (st := []) rfl dX1_size_169 rfl (Nat.le_of_ble_eq_true rfl) w13 V (fun C9 S10 => wx_ki (fun y11 h8 V => ?_))
          refine wq_iret (pc := 172) dX1_size_172 rfl ⟨_, rfl, V⟩
        by_cases c0 : x1.toInt = 0
        · refine wq_tableIn (pc := 33) (off := 51) (tgt := 84) dX1_size_33 (by omega) (by omega) (by rw [c0]; rfl) rfl ?_
          have V := V.2.1 c0
          refine wq_aload_n (pc := 84) dX1_size_84 rfl rfl ?_
          refine gfq219 (pc := 85) rfl dX1_size_85 V (fun r14 V => ?_)
          obtain ⟨a15, w16, V⟩ := V
          rw [w16]
          refine gfq310 (pc := 88) rfl dX1_size_88 V (fun y17 V => ?_)
          refine wq_iret (pc := 91) dX1_size_91 rfl ⟨_, rfl, V⟩
        by_cases c1 : x1.toInt = 1
        · refine wq_tableIn (pc := 33) (off := 59) (tgt := 92) dX1_size_33 (by omega) (by omega) (by rw [c1]; rfl) rfl ?_
          have V := V.2.2.1 c1
          refine wq_aload_n (pc := 92) dX1_size_92 rfl rfl ?_
          refine gfq219 (pc := 93) rfl dX1_size_93 V (fun r18 V => ?_)
          obtain ⟨a19, w20, V⟩ := V
          rw [w20]
          refine gfq314 (pc := 96) rfl dX1_size_96 V (fun y21 V => ?_)
          refine wq_iret (pc := 99) dX1_size_99 rfl ⟨_, rfl, V⟩
        by_cases c2 : x1.toInt = 2
        · refine wq_tableIn (pc := 33) (off := 67) (tgt := 100) dX1_size_33 (by omega) (by omega) (by rw [c2]; rfl) rfl ?_
          have V := V.2.2.2.1 c2
          refine wq_aload_n (pc := 100) dX1_size_100 rfl rfl ?_
          refine gfq220 (pc := 101) rfl dX1_size_101 V (fun a22 V => ?_)
          obtain ⟨fs27, w28, V⟩ := V
          refine clq1115 (pc := 104) (As := []) (st := []) rfl dX1_size_104 rfl (Nat.le_of_ble_eq_true rfl) w28 V (fun C24 S25 => wx_ki (fun y26 h23 V => ?_))
          refine wq_iret (pc := 107) dX1_size_107 rfl ⟨_, rfl, V⟩
        by_cases c3 : x1.toInt = 3
        · refine wq_tableIn (pc := 33) (off := 75) (tgt := 108) dX1_size_33 (by omega) (by omega) (by rw [c3]; rfl) rfl ?_
          have V := V.2.2.2.2.1 c3
          refine wq_aload_n (pc := 108) dX1_size_108 rfl rfl ?_
          refine gfq219 (pc := 109) rfl dX1_size_109 V (fun r29 V => ?_)
          obtain ⟨a30, w31, V⟩ := V
          rw [w31]
          refine gfq320 (pc := 112) rfl dX1_size_112 V (fun a32 V => ?_)
          obtain ⟨fs37, w38, V⟩ := V
          refine clq1283 (pc := 115) (As := []) (st := []) rfl dX1_size_115 rfl (Nat.le_of_ble_eq_true rfl) w38 V (fun C34 S35 => wx_ki (fun y36 h33 V => ?_))
          refine wq_iret (pc := 118) dX1_size_118 rfl ⟨_, rfl, V⟩
        by_cases c4 : x1.toInt = 4
        · refine wq_tableIn (pc := 33) (off := 86) (tgt := 119) dX1_size_33 (by omega) (by omega) (by rw [c4]; rfl) rfl ?_
          have V := V.2.2.2.2.2.1 c4
          refine wq_aload_n (pc := 119) dX1_size_119 rfl rfl ?_
          refine gfq219 (pc := 120) rfl dX1_size_120 V (fun r39 V => ?_)
          obtain ⟨a40, w41, V⟩ := V
          rw [w41]
          refine gfq324 (pc := 123) rfl dX1_size_123 V (fun a42 V => ?_)
          obtain ⟨fs47, w48, V⟩ := V
          refine clq1283 (pc := 126) (As := []) (st := []) rfl dX1_size_126 rfl (Nat.le_of_ble_eq_true rfl) w48 V (fun C44 S45 => wx_ki (fun y46 h43 V => ?_))
          refine wq_iret (pc := 129) dX1_size_129 rfl ⟨_, rfl, V⟩
        by_cases c5 : x1.toInt = 5
        · refine wq_tableIn (pc := 33) (off := 97) (tgt := 130) dX1_size_33 (by omega) (by omega) (by rw [c5]; rfl) rfl ?_
          have V := V.2.2.2.2.2.2.1 c5
          refine wq_aload_n (pc := 130) dX1_size_130 rfl rfl ?_
          refine gfq219 (pc := 131) rfl dX1_size_131 V (fun r49 V => ?_)
          obtain ⟨a50, w51, V⟩ := V
          rw [w51]
          refine gfq327 (pc := 134) rfl dX1_size_134 V (fun a52 V => ?_)
          obtain ⟨fs57, w58, V⟩ := V
          refine clq1283 (pc := 137) (As := []) (st := []) rfl dX1_size_137 rfl (Nat.le_of_ble_eq_true rfl) w58 V (fun C54 S55 => wx_ki (fun y56 h53 V => ?_))
          refine wq_iret (pc := 140) dX1_size_140 rfl ⟨_, rfl, V⟩
        by_cases c6 : x1.toInt = 6
        · refine wq_tableIn (pc := 33) (off := 108) (tgt := 141) dX1_size_33 (by omega) (by omega) (by rw [c6]; rfl) rfl ?_
          have V := V.2.2.2.2.2.2.2.1 c6
          refine wq_aload_n (pc := 141) dX1_size_141 rfl rfl ?_
          refine gfq219 (pc := 142) rfl dX1_size_142 V (fun r59 V => ?_)
          obtain ⟨a60, w61, V⟩ := V
          rw [w61]
          refine gfq308 (pc := 145) rfl dX1_size_145 V (fun y62 V => ?_)
          refine wq_iret (pc := 148) dX1_size_148 rfl ⟨_, rfl, V⟩
        by_cases c7 : x1.toInt = 7
        · refine wq_tableIn (pc := 33) (off := 116) (tgt := 149) dX1_size_33 (by omega) (by omega) (by rw [c7]; rfl) rfl ?_
          have V := V.2.2.2.2.2.2.2.2.1 c7
          refine wq_aload_n (pc := 149) dX1_size_149 rfl rfl ?_
          refine gfq222 (pc := 150) rfl dX1_size_150 V (fun a63 V => ?_)
          obtain ⟨fs68, w69, V⟩ := V
          refine clq1283 (pc := 153) (As := []) (st := []) rfl dX1_size_153 rfl (Nat.le_of_ble_eq_true rfl) w69 V (fun C65 S66 => wx_ki (fun y67 h64 V => ?_))
          refine wq_iret (pc := 156) dX1_size_156 rfl ⟨_, rfl, V⟩
        have c8 : x1.toInt = 8 := by omega
        · refine wq_tableIn (pc := 33) (off := 124) (tgt := 157) dX1_size_33 (by omega) (by omega) (by rw [c8]; rfl) rfl ?_
          have V := V.2.2.2.2.2.2.2.2.2 c8
          refine wq_aload_n (pc := 157) dX1_size_157 rfl rfl ?_
          refine gfq223 (pc := 158) rfl dX1_size_158 V (fun a70 V => ?_)
          obtain ⟨fs75, w76, V⟩ := V
          refine clq1283 (pc := 161) (As := []) (st := []) rfl dX1_size_161 rfl (Nat.le_of_ble_eq_true rfl) w76 V (fun C72 S73 => wx_ki (fun y74 h71 V => ?_))
          refine wq_iret (pc := 164) dX1_size_164 rfl ⟨_, rfl, V⟩
      · subst c
        have V := V.1 rfl
        refine wq_iconst (pc := 30) dX1_size_30 gsti0 ?_
        refine wq_iret (pc := 31) dX1_size_31 rfl ⟨_, rfl, V⟩
    · have V := V.2 c
      refine wq_iconst (pc := 21) dX1_size_21 gstim1 ?_
      refine wq_iret (pc := 22) dX1_size_22 rfl ⟨_, rfl, V⟩
  · have V := V.2 c
    refine wq_aload_n (pc := 6) dX1_size_6 rfl rfl ?_
    refine gfq215 (pc := 7) rfl dX1_size_7 V (fun y77 V => ?_)
    refine wq_iret (pc := 10) dX1_size_10 rfl ⟨_, rfl, V⟩
theorem vX1_trouble_0 {G : wq_G} {l : Launch} {d C S : Nat} {K : Int32 → wq_H → Prop} {x0 : Nat} {h : wq_H} (V : wq_gI h x0 [(0, 4)] (fun y1 => K y1 h)) : wq_T G l d mX1_trouble (wq_qi K) 0 [some (.ref x0)] [] h C S := by
  refine wq_aload_n (pc := 0) dX1_trouble_0 rfl rfl ?_
  refine gfq218 (pc := 1) rfl dX1_trouble_1 V (fun y1 V => ?_)
  refine wq_iret (pc := 4) dX1_trouble_4 rfl ⟨_, rfl, V⟩
theorem vX10_init_0 {G : wq_G} {l : Launch} {d C S : Nat} {K : wq_H → Prop} {x0 : Nat} {x1 : Int32} {h : wq_H} (V : wq_cw G l d C S mX9_init [.ref x0] h (fun h1 C2 S3 => wq_pf G h1 x0 [(8, 2)] (.int x1) (fun h4 => K h4))) : wq_T G l d mX10_init (wq_qv K) 0 [some (.ref x0), some (.int x1)] [] h C S := by
  refine wq_aload_n (pc := 0) dX10_init_0 rfl rfl ?_
  refine clq826 (pc := 1) (As := []) (st := []) rfl dX10_init_1 rfl (Nat.le_of_ble_eq_true rfl) V (fun C2 S3 => wx_kv (fun h1 V => ?_))
  refine wq_aload_n (pc := 4) dX10_init_4 rfl rfl ?_
  refine wq_iload_n (pc := 5) dX10_init_5 rfl rfl ?_
  refine pfq830 (pc := 6) rfl rfl dX10_init_6 ⟨rfl, rfl⟩ V (fun h4 V => ?_)
  refine wq_vret (pc := 9) dX10_init_9 rfl ⟨rfl, V⟩
theorem vX10_outcomes_0 {G : wq_G} {l : Launch} {d C S : Nat} {K : Int32 → wq_H → Prop} {x0 : Nat} {h : wq_H} (V : K (2 : Int32) h) : wq_T G l d mX10_outcomes (wq_qi K) 0 [some (.ref x0)] [] h C S := by
  refine wq_iconst (pc := 0) dX10_outcomes_0 gsti2 ?_
  refine wq_iret (pc := 1) dX10_outcomes_1 rfl ⟨_, rfl, V⟩
theorem vX10_fresh_0 {G : wq_G} {l : Launch} {d C S : Nat} {K : Option Nat → wq_H → Prop} {x0 : Nat} {h : wq_H} (V : wq_no G h 8 [.null, .null, .int 0] 3 C S (fun a1 h2 => wq_gI h2 x0 [(8, 2)] (fun y3 => wq_cw G l d (C - 1) (S - 3) mX10_init [.ref a1, .int y3] h2 (fun h4 C5 S6 => K (some a1) h4)))) : wq_T G l d mX10_fresh (wq_qq K) 0 [some (.ref x0)] [] h C S := by
  refine nwq964 (pc := 0) rfl dX10_fresh_0 V (fun a1 h2 V => ?_)
  refine wq_dup (pc := 3) dX10_fresh_3 rfl ?_
  refine wq_aload_n (pc := 4) dX10_fresh_4 rfl rfl ?_
  refine gfq830 (pc := 5) rfl dX10_fresh_5 V (fun y3 V => ?_)
  refine clq965 (pc := 8) (As := [.int y3]) (st := [.ref a1]) rfl dX10_fresh_8 rfl (Nat.le_of_ble_eq_true rfl) V (fun C5 S6 => wx_kv (fun h4 V => ?_))
  refine wq_aret (r := (some a1)) (pc := 11) dX10_fresh_11 rfl rfl ⟨_, rfl, V⟩
theorem vX10_outcome_0 {G : wq_G} {l : Launch} {d C S : Nat} {K : Int32 → wq_H → Prop} {x0 : Nat} {x1 : Int32} {h : wq_H} (V : wq_gI h x0 [(8, 2)] (fun y1 => K ((x1 >>> (y1 &&& 31)) &&& (1 : Int32)) h)) : wq_T G l d mX10_outcome (wq_qi K) 0 [some (.ref x0), some (.int x1)] [] h C S := by
  refine wq_iload_n (pc := 0) dX10_outcome_0 rfl rfl ?_
  refine wq_aload_n (pc := 1) dX10_outcome_1 rfl rfl ?_
  refine gfq830 (pc := 2) rfl dX10_outcome_2 V (fun y1 V => ?_)
  refine wq_ishr (pc := 5) dX10_outcome_5 ?_
  refine wq_iconst (pc := 6) dX10_outcome_6 gsti1 ?_
  refine wq_iand (pc := 7) dX10_outcome_7 ?_
  refine wq_iret (pc := 8) dX10_outcome_8 rfl ⟨_, rfl, V⟩
theorem vX10_first_0 {G : wq_G} {l : Launch} {d C S : Nat} {K : Int32 → wq_H → Prop} {x0 : Nat} {h : wq_H} (V : wq_gI h x0 [(8, 2)] (fun y1 => K y1 h)) : wq_T G l d mX10_first (wq_qi K) 0 [some (.ref x0)] [] h C S := by
  refine wq_aload_n (pc := 0) dX10_first_0 rfl rfl ?_
  refine gfq830 (pc := 1) rfl dX10_first_1 V (fun y1 V => ?_)
  refine wq_iret (pc := 4) dX10_first_4 rfl ⟨_, rfl, V⟩
theorem vX10_second_0 {G : wq_G} {l : Launch} {d C S : Nat} {K : Int32 → wq_H → Prop} {x0 : Nat} {h : wq_H} (V : K (-2 : Int32) h) : wq_T G l d mX10_second (wq_qi K) 0 [some (.ref x0)] [] h C S := by
  refine wq_bipush (pc := 0) dX10_second_0 gstbm2 ?_
  refine wq_iret (pc := 2) dX10_second_2 rfl ⟨_, rfl, V⟩
theorem vX10_ones_0 {G : wq_G} {l : Launch} {d C S : Nat} {K : Int32 → wq_H → Prop} {x0 : Nat} {x1 : Int32} {h : wq_H} (V : wq_gR h x0 [(8, 0)] (fun a1 => wq_ai G h a1 (1 : Int32) (fun y2 => K y2 h))) : wq_T G l d mX10_ones (wq_qi K) 0 [some (.ref x0), some (.int x1)] [] h C S := by
  refine wq_aload_n (pc := 0) dX10_ones_0 rfl rfl ?_
  refine gfq837 (pc := 1) rfl dX10_ones_1 V (fun a1 V => ?_)
  refine wq_iconst (pc := 4) dX10_ones_4 gsti1 ?_
  refine wx_ai (pc := 5) dX10_ones_5 V (fun y2 V => ?_)
  refine wq_iret (pc := 6) dX10_ones_6 rfl ⟨_, rfl, V⟩
theorem vX10_flipped_0 {G : wq_G} {l : Launch} {d C S : Nat} {K : Int32 → wq_H → Prop} {x0 : Nat} {x1 : Int32} {x2 : Int32} {h : wq_H} (V : K ((1 : Int32) - x1) h) : wq_T G l d mX10_flipped (wq_qi K) 0 [some (.ref x0), some (.int x1), some (.int x2)] [] h C S := by
  refine wq_iconst (pc := 0) dX10_flipped_0 gsti1 ?_
  refine wq_iload_n (pc := 1) dX10_flipped_1 rfl rfl ?_
  refine wq_isub (pc := 2) dX10_flipped_2 ?_
  refine wq_iret (pc := 3) dX10_flipped_3 rfl ⟨_, rfl, V⟩
theorem vX10_without_0 {G : wq_G} {l : Launch} {d C S : Nat} {K : Option Nat → wq_H → Prop} {x0 : Nat} {x1 : Int32} {h : wq_H} (V : K none h) : wq_T G l d mX10_without (wq_qq K) 0 [some (.ref x0), some (.int x1)] [] h C S := by
  refine wq_aconst (pc := 0) dX10_without_0 ?_
  refine wq_aret (r := none) (pc := 1) dX10_without_1 rfl rfl ⟨_, rfl, V⟩
theorem vX11_init_0 {G : wq_G} {l : Launch} {d C S : Nat} {K : wq_H → Prop} {x0 : Nat} {x1 : Int32} {x2 : Int32} {h : wq_H} (V : wq_cw G l d C S mX9_init [.ref x0] h (fun h1 C2 S3 => wq_pf G h1 x0 [(9, 2)] (.int x1) (fun h4 => wq_pf G h4 x0 [(9, 3)] (.int x2) (fun h5 => K h5)))) : wq_T G l d mX11_init (wq_qv K) 0 [some (.ref x0), some (.int x1), some (.int x2)] [] h C S := by
  refine wq_aload_n (pc := 0) dX11_init_0 rfl rfl ?_
  refine clq856 (pc := 1) (As := []) (st := []) rfl dX11_init_1 rfl (Nat.le_of_ble_eq_true rfl) V (fun C2 S3 => wx_kv (fun h1 V => ?_))
  refine wq_aload_n (pc := 4) dX11_init_4 rfl rfl ?_
  refine wq_iload_n (pc := 5) dX11_init_5 rfl rfl ?_
  refine pfq857 (pc := 6) rfl rfl dX11_init_6 ⟨rfl, rfl⟩ V (fun h4 V => ?_)
  refine wq_aload_n (pc := 9) dX11_init_9 rfl rfl ?_
  refine wq_iload_n (pc := 10) dX11_init_10 rfl rfl ?_
  refine pfq858 (pc := 11) rfl rfl dX11_init_11 ⟨rfl, rfl⟩ V (fun h5 V => ?_)
  refine wq_vret (pc := 14) dX11_init_14 rfl ⟨rfl, V⟩
theorem vX11_outcomes_0 {G : wq_G} {l : Launch} {d C S : Nat} {K : Int32 → wq_H → Prop} {x0 : Nat} {h : wq_H} (V : K (4 : Int32) h) : wq_T G l d mX11_outcomes (wq_qi K) 0 [some (.ref x0)] [] h C S := by
  refine wq_iconst (pc := 0) dX11_outcomes_0 gsti4 ?_
  refine wq_iret (pc := 1) dX11_outcomes_1 rfl ⟨_, rfl, V⟩
theorem vX11_fresh_0 {G : wq_G} {l : Launch} {d C S : Nat} {K : Option Nat → wq_H → Prop} {x0 : Nat} {h : wq_H} (V : wq_no G h 9 [.null, .null, .int 0, .int 0] 4 C S (fun a1 h2 => wq_gI h2 x0 [(9, 2)] (fun y3 => wq_gI h2 x0 [(9, 3)] (fun y4 => wq_cw G l d (C - 1) (S - 4) mX11_init [.ref a1, .int y3, .int y4] h2 (fun h5 C6 S7 => K (some a1) h5))))) : wq_T G l d mX11_fresh (wq_qq K) 0 [some (.ref x0)] [] h C S := by
  refine nwq969 (pc := 0) rfl dX11_fresh_0 V (fun a1 h2 V => ?_)
  refine wq_dup (pc := 3) dX11_fresh_3 rfl ?_
  refine wq_aload_n (pc := 4) dX11_fresh_4 rfl rfl ?_
  refine gfq857 (pc := 5) rfl dX11_fresh_5 V (fun y3 V => ?_)
  refine wq_aload_n (pc := 8) dX11_fresh_8 rfl rfl ?_
  refine gfq858 (pc := 9) rfl dX11_fresh_9 V (fun y4 V => ?_)
  refine clq970 (pc := 12) (As := [.int y3, .int y4]) (st := [.ref a1]) rfl dX11_fresh_12 rfl (Nat.le_of_ble_eq_true rfl) V (fun C6 S7 => wx_kv (fun h5 V => ?_))
  refine wq_aret (r := (some a1)) (pc := 15) dX11_fresh_15 rfl rfl ⟨_, rfl, V⟩
theorem vX11_outcome_0 {G : wq_G} {l : Launch} {d C S : Nat} {K : Int32 → wq_H → Prop} {x0 : Nat} {x1 : Int32} {h : wq_H} (V : wq_gI h x0 [(9, 2)] (fun y1 => wq_gI h x0 [(9, 3)] (fun y2 => K (((2 : Int32) * ((x1 >>> (y1 &&& 31)) &&& (1 : Int32))) + ((x1 >>> (y2 &&& 31)) &&& (1 : Int32))) h))) : wq_T G l d mX11_outcome (wq_qi K) 0 [some (.ref x0), some (.int x1)] [] h C S := by
  refine wq_iconst (pc := 0) dX11_outcome_0 gsti2 ?_
  refine wq_iload_n (pc := 1) dX11_outcome_1 rfl rfl ?_
  refine wq_aload_n (pc := 2) dX11_outcome_2 rfl rfl ?_
  refine gfq857 (pc := 3) rfl dX11_outcome_3 V (fun y1 V => ?_)
  refine wq_ishr (pc := 6) dX11_outcome_6 ?_
  refine wq_iconst (pc := 7) dX11_outcome_7 gsti1 ?_
  refine wq_iand (pc := 8) dX11_outcome_8 ?_
  refine wq_imul (pc := 9) dX11_outcome_9 ?_
  refine wq_iload_n (pc := 10) dX11_outcome_10 rfl rfl ?_
  refine wq_aload_n (pc := 11) dX11_outcome_11 rfl rfl ?_
  refine gfq858 (pc := 12) rfl dX11_outcome_12 V (fun y2 V => ?_)
  refine wq_ishr (pc := 15) dX11_outcome_15 ?_
  refine wq_iconst (pc := 16) dX11_outcome_16 gsti1 ?_
  refine wq_iand (pc := 17) dX11_outcome_17 ?_
  refine wq_iadd (pc := 18) dX11_outcome_18 ?_
  refine wq_iret (pc := 19) dX11_outcome_19 rfl ⟨_, rfl, V⟩
theorem vX11_first_0 {G : wq_G} {l : Launch} {d C S : Nat} {K : Int32 → wq_H → Prop} {x0 : Nat} {h : wq_H} (V : wq_gI h x0 [(9, 2)] (fun y1 => K y1 h)) : wq_T G l d mX11_first (wq_qi K) 0 [some (.ref x0)] [] h C S := by
  refine wq_aload_n (pc := 0) dX11_first_0 rfl rfl ?_
  refine gfq857 (pc := 1) rfl dX11_first_1 V (fun y1 V => ?_)
  refine wq_iret (pc := 4) dX11_first_4 rfl ⟨_, rfl, V⟩
theorem vX11_second_0 {G : wq_G} {l : Launch} {d C S : Nat} {K : Int32 → wq_H → Prop} {x0 : Nat} {h : wq_H} (V : wq_gI h x0 [(9, 3)] (fun y1 => K y1 h)) : wq_T G l d mX11_second (wq_qi K) 0 [some (.ref x0)] [] h C S := by
  refine wq_aload_n (pc := 0) dX11_second_0 rfl rfl ?_
  refine gfq858 (pc := 1) rfl dX11_second_1 V (fun y1 V => ?_)
  refine wq_iret (pc := 4) dX11_second_4 rfl ⟨_, rfl, V⟩
theorem vX11_ones_0 {G : wq_G} {l : Launch} {d C S : Nat} {K : Int32 → wq_H → Prop} {x0 : Nat} {x1 : Int32} {h : wq_H} (V : wq_gR h x0 [(9, 0)] (fun a1 => wq_ai G h a1 (3 : Int32) (fun y2 => wq_gI h x0 [(9, 2)] (fun y3 => (¬ x1 = y3 → wq_gR h x0 [(9, 0)] (fun a4 => wq_ai G h a4 (1 : Int32) (fun y5 => K (y2 + y5) h))) ∧ (x1 = y3 → wq_gR h x0 [(9, 0)] (fun a6 => wq_ai G h a6 (2 : Int32) (fun y7 => K (y2 + y7) h))))))) : wq_T G l d mX11_ones (wq_qi K) 0 [some (.ref x0), some (.int x1)] [] h C S := by
  refine wq_aload_n (pc := 0) dX11_ones_0 rfl rfl ?_
  refine gfq835 (pc := 1) rfl dX11_ones_1 V (fun a1 V => ?_)
  refine wq_iconst (pc := 4) dX11_ones_4 gsti3 ?_
  refine wx_ai (pc := 5) dX11_ones_5 V (fun y2 V => ?_)
  refine wq_iload_n (pc := 6) dX11_ones_6 rfl rfl ?_
  refine wq_aload_n (pc := 7) dX11_ones_7 rfl rfl ?_
  refine gfq857 (pc := 8) rfl dX11_ones_8 V (fun y3 V => ?_)
  refine wq_icmp_ne (pc := 11) (tgt := 23) dX11_ones_11 rfl (fun c => ?_) (fun c => ?_)
  · have V := V.1 c
    refine wq_aload_n (pc := 23) dX11_ones_23 rfl rfl ?_
    refine gfq835 (pc := 24) rfl dX11_ones_24 V (fun a4 V => ?_)
    refine wq_iconst (pc := 27) dX11_ones_27 gsti1 ?_
    refine wx_ai (pc := 28) dX11_ones_28 V (fun y5 V => ?_)
    refine wq_iadd (pc := 29) dX11_ones_29 ?_
    refine wq_iret (pc := 30) dX11_ones_30 rfl ⟨_, rfl, V⟩
  · have V := V.2 c
    refine wq_aload_n (pc := 14) dX11_ones_14 rfl rfl ?_
    refine gfq835 (pc := 15) rfl dX11_ones_15 V (fun a6 V => ?_)
    refine wq_iconst (pc := 18) dX11_ones_18 gsti2 ?_
    refine wx_ai (pc := 19) dX11_ones_19 V (fun y7 V => ?_)
    refine wq_goto (pc := 20) (tgt := 29) dX11_ones_20 rfl ?_
    refine wq_iadd (pc := 29) dX11_ones_29 ?_
    refine wq_iret (pc := 30) dX11_ones_30 rfl ⟨_, rfl, V⟩
theorem vX11_same_0 {G : wq_G} {l : Launch} {d C S : Nat} {K : Int32 → wq_H → Prop} {x0 : Nat} {h : wq_H} (V : wq_gR h x0 [(9, 0)] (fun a1 => wq_ai G h a1 (0 : Int32) (fun y2 => wq_gR h x0 [(9, 0)] (fun a3 => wq_ai G h a3 (3 : Int32) (fun y4 => wq_gR h x0 [(9, 0)] (fun a5 => wq_ai G h a5 (1 : Int32) (fun y6 => wq_gR h x0 [(9, 0)] (fun a7 => wq_ai G h a7 (2 : Int32) (fun y8 => K (((y2 + y4) - y6) - y8) h))))))))) : wq_T G l d mX11_same (wq_qi K) 0 [some (.ref x0)] [] h C S := by
  refine wq_aload_n (pc := 0) dX11_same_0 rfl rfl ?_
  refine gfq835 (pc := 1) rfl dX11_same_1 V (fun a1 V => ?_)
  refine wq_iconst (pc := 4) dX11_same_4 gsti0 ?_
  refine wx_ai (pc := 5) dX11_same_5 V (fun y2 V => ?_)
  refine wq_aload_n (pc := 6) dX11_same_6 rfl rfl ?_
  refine gfq835 (pc := 7) rfl dX11_same_7 V (fun a3 V => ?_)
  refine wq_iconst (pc := 10) dX11_same_10 gsti3 ?_
  refine wx_ai (pc := 11) dX11_same_11 V (fun y4 V => ?_)
  refine wq_iadd (pc := 12) dX11_same_12 ?_
  refine wq_aload_n (pc := 13) dX11_same_13 rfl rfl ?_
  refine gfq835 (pc := 14) rfl dX11_same_14 V (fun a5 V => ?_)
  refine wq_iconst (pc := 17) dX11_same_17 gsti1 ?_
  refine wx_ai (pc := 18) dX11_same_18 V (fun y6 V => ?_)
  refine wq_isub (pc := 19) dX11_same_19 ?_
  refine wq_aload_n (pc := 20) dX11_same_20 rfl rfl ?_
  refine gfq835 (pc := 21) rfl dX11_same_21 V (fun a7 V => ?_)
  refine wq_iconst (pc := 24) dX11_same_24 gsti2 ?_
  refine wx_ai (pc := 25) dX11_same_25 V (fun y8 V => ?_)
  refine wq_isub (pc := 26) dX11_same_26 ?_
  refine wq_iret (pc := 27) dX11_same_27 rfl ⟨_, rfl, V⟩
theorem vX11_looks_0 {G : wq_G} {l : Launch} {d C S : Nat} {K : Int32 → wq_H → Prop} {x0 : Nat} {h : wq_H} (V : wq_gI h x0 [(9, 2)] (fun y1 => wq_gI h x0 [(9, 3)] (fun y2 => K (((1 : Int32) <<< (y1 &&& 31)) ||| ((1 : Int32) <<< (y2 &&& 31))) h))) : wq_T G l d mX11_looks (wq_qi K) 0 [some (.ref x0)] [] h C S := by
  refine wq_iconst (pc := 0) dX11_looks_0 gsti1 ?_
  refine wq_aload_n (pc := 1) dX11_looks_1 rfl rfl ?_
  refine gfq857 (pc := 2) rfl dX11_looks_2 V (fun y1 V => ?_)
  refine wq_ishl (pc := 5) dX11_looks_5 ?_
  refine wq_iconst (pc := 6) dX11_looks_6 gsti1 ?_
  refine wq_aload_n (pc := 7) dX11_looks_7 rfl rfl ?_
  refine gfq858 (pc := 8) rfl dX11_looks_8 V (fun y2 V => ?_)
  refine wq_ishl (pc := 11) dX11_looks_11 ?_
  refine wq_ior (pc := 12) dX11_looks_12 ?_
  refine wq_iret (pc := 13) dX11_looks_13 rfl ⟨_, rfl, V⟩
theorem vX11_flipped_0 {G : wq_G} {l : Launch} {d C S : Nat} {K : Int32 → wq_H → Prop} {x0 : Nat} {x1 : Int32} {x2 : Int32} {h : wq_H} (V : wq_gI h x0 [(9, 2)] (fun y1 => (¬ x2 = y1 → K (x1 ^^^ (1 : Int32)) h) ∧ (x2 = y1 → K (x1 ^^^ (2 : Int32)) h))) : wq_T G l d mX11_flipped (wq_qi K) 0 [some (.ref x0), some (.int x1), some (.int x2)] [] h C S := by
  refine wq_iload_n (pc := 0) dX11_flipped_0 rfl rfl ?_
  refine wq_aload_n (pc := 1) dX11_flipped_1 rfl rfl ?_
  refine gfq857 (pc := 2) rfl dX11_flipped_2 V (fun y1 V => ?_)
  refine wq_icmp_ne (pc := 5) (tgt := 14) dX11_flipped_5 rfl (fun c => ?_) (fun c => ?_)
  · have V := V.1 c
    refine wq_iload_n (pc := 14) dX11_flipped_14 rfl rfl ?_
    refine wq_iconst (pc := 15) dX11_flipped_15 gsti1 ?_
    refine wq_ixor (pc := 16) dX11_flipped_16 ?_
    refine wq_iret (pc := 17) dX11_flipped_17 rfl ⟨_, rfl, V⟩
  · have V := V.2 c
    refine wq_iload_n (pc := 8) dX11_flipped_8 rfl rfl ?_
    refine wq_iconst (pc := 9) dX11_flipped_9 gsti2 ?_
    refine wq_ixor (pc := 10) dX11_flipped_10 ?_
    refine wq_goto (pc := 11) (tgt := 17) dX11_flipped_11 rfl ?_
    refine wq_iret (pc := 17) dX11_flipped_17 rfl ⟨_, rfl, V⟩
theorem vX11_without_0 {G : wq_G} {l : Launch} {d C S : Nat} {K : Option Nat → wq_H → Prop} {x0 : Nat} {x1 : Int32} {h : wq_H} (V : wq_no G h 8 [.null, .null, .int 0] 3 C S (fun a1 h2 => wq_gI h2 x0 [(9, 2)] (fun y3 => (¬ x1 = y3 → wq_gI h2 x0 [(9, 2)] (fun y4 => wq_cw G l d (C - 1) (S - 3) mX10_init [.ref a1, .int y4] h2 (fun h5 C6 S7 => wq_T G l d mX11_without (wq_qq K) 29 [some (.ref x0), some (.int x1), some (.ref a1), some (.int (0 : Int32))] [] h5 C6 S7))) ∧ (x1 = y3 → wq_gI h2 x0 [(9, 3)] (fun y8 => wq_cw G l d (C - 1) (S - 3) mX10_init [.ref a1, .int y8] h2 (fun h9 C10 S11 => wq_T G l d mX11_without (wq_qq K) 29 [some (.ref x0), some (.int x1), some (.ref a1), some (.int (0 : Int32))] [] h9 C10 S11)))))) : wq_T G l d mX11_without (wq_qq K) 0 [some (.ref x0), some (.int x1), none, none] [] h C S := by
  refine nwq1565 (pc := 0) rfl dX11_without_0 V (fun a1 h2 V => ?_)
  refine wq_dup (pc := 3) dX11_without_3 rfl ?_
  refine wq_iload_n (pc := 4) dX11_without_4 rfl rfl ?_
  refine wq_aload_n (pc := 5) dX11_without_5 rfl rfl ?_
  refine gfq857 (pc := 6) rfl dX11_without_6 V (fun y3 V => ?_)
  refine wq_icmp_ne (pc := 9) (tgt := 19) dX11_without_9 rfl (fun c => ?_) (fun c => ?_)
  · have V := V.1 c
    refine wq_aload_n (pc := 19) dX11_without_19 rfl rfl ?_
    refine gfq857 (pc := 20) rfl dX11_without_20 V (fun y4 V => ?_)
    refine clq1566 (pc := 23) (As := [.int y4]) (st := [.ref a1]) rfl dX11_without_23 rfl (Nat.le_of_ble_eq_true rfl) V (fun C6 S7 => wx_kv (fun h5 V => ?_))
    refine wq_astore_n (L' := [some (.ref x0), some (.int x1), some (.ref a1), none]) (pc := 26) dX11_without_26 rfl (Nat.le_of_ble_eq_true rfl) rfl ?_
    refine wq_iconst (pc := 27) dX11_without_27 gsti0 ?_
    refine wq_istore_n (L' := [some (.ref x0), some (.int x1), some (.ref a1), some (.int (0 : Int32))]) (pc := 28) dX11_without_28 rfl (Nat.le_of_ble_eq_true rfl) rfl ?_
    exact wq_T.less V ⟨rfl, ⟨rfl, ⟨rfl, ⟨rfl, trivial⟩⟩⟩⟩
  · have V := V.2 c
    refine wq_aload_n (pc := 12) dX11_without_12 rfl rfl ?_
    refine gfq858 (pc := 13) rfl dX11_without_13 V (fun y8 V => ?_)
    refine wq_goto (pc := 16) (tgt := 23) dX11_without_16 rfl ?_
    refine clq1566 (pc := 23) (As := [.int y8]) (st := [.ref a1]) rfl dX11_without_23 rfl (Nat.le_of_ble_eq_true rfl) V (fun C10 S11 => wx_kv (fun h9 V => ?_))
    refine wq_astore_n (L' := [some (.ref x0), some (.int x1), some (.ref a1), none]) (pc := 26) dX11_without_26 rfl (Nat.le_of_ble_eq_true rfl) rfl ?_
    refine wq_iconst (pc := 27) dX11_without_27 gsti0 ?_
    refine wq_istore_n (L' := [some (.ref x0), some (.int x1), some (.ref a1), some (.int (0 : Int32))]) (pc := 28) dX11_without_28 rfl (Nat.le_of_ble_eq_true rfl) rfl ?_
    exact wq_T.less V ⟨rfl, ⟨rfl, ⟨rfl, ⟨rfl, trivial⟩⟩⟩⟩
theorem vX11_without_29 {G : wq_G} {l : Launch} {d C S : Nat} {K : Option Nat → wq_H → Prop} {x0 : Nat} {x1 : Int32} {x2 : Nat} {x3 : Int32} {h : wq_H} (V : ((4 : Int32) ≤ x3 → K (some x2) h) ∧ (¬ (4 : Int32) ≤ x3 → wq_gR h x2 [(8, 0)] (fun a1 => wq_gI h x0 [(9, 2)] (fun y2 => (¬ x1 = y2 → wq_ai G h a1 (x3 / (2 : Int32)) (fun y3 => wq_gR h x0 [(9, 0)] (fun a4 => wq_ai G h a4 x3 (fun y5 => wq_si G h a1 (x3 / (2 : Int32)) (y3 + y5) (fun h6 => wq_T G l d mX11_without (wq_qq K) 29 [some (.ref x0), some (.int x1), some (.ref x2), some (.int (x3 + (1 : Int32)))] [] h6 C S))))) ∧ (x1 = y2 → wq_ai G h a1 (x3 - x3 / (2 : Int32) * (2 : Int32)) (fun y7 => wq_gR h x0 [(9, 0)] (fun a8 => wq_ai G h a8 x3 (fun y9 => wq_si G h a1 (x3 - x3 / (2 : Int32) * (2 : Int32)) (y7 + y9) (fun h10 => wq_T G l d mX11_without (wq_qq K) 29 [some (.ref x0), some (.int x1), some (.ref x2), some (.int (x3 + (1 : Int32)))] [] h10 C S))))))))) : wq_T G l d mX11_without (wq_qq K) 29 [some (.ref x0), some (.int x1), some (.ref x2), some (.int x3)] [] h C S := by
  refine wq_iload_n (pc := 29) dX11_without_29 rfl rfl ?_
  refine wq_iconst (pc := 30) dX11_without_30 gsti4 ?_
  refine wq_icmp_ge (pc := 31) (tgt := 71) dX11_without_31 rfl (fun c => ?_) (fun c => ?_)
  · have V := V.1 c
    refine wq_aload_n (pc := 71) dX11_without_71 rfl rfl ?_
    refine wq_aret (r := (some x2)) (pc := 72) dX11_without_72 rfl rfl ⟨_, rfl, V⟩
  · have V := V.2 c
    refine wq_aload_n (pc := 34) dX11_without_34 rfl rfl ?_
    refine gfq833 (pc := 35) rfl dX11_without_35 V (fun a1 V => ?_)
    refine wq_iload_n (pc := 38) dX11_without_38 rfl rfl ?_
    refine wq_aload_n (pc := 39) dX11_without_39 rfl rfl ?_
    refine gfq857 (pc := 40) rfl dX11_without_40 V (fun y2 V => ?_)
    refine wq_icmp_ne (pc := 43) (tgt := 52) dX11_without_43 rfl (fun c => ?_) (fun c => ?_)
    · have V := V.1 c
      refine wq_iload_n (pc := 52) dX11_without_52 rfl rfl ?_
      refine wq_iconst (pc := 53) dX11_without_53 gsti2 ?_
      refine wq_idiv (pc := 54) dX11_without_54 (by decide) ?_
      refine wq_dup2 (pc := 55) dX11_without_55 rfl rfl ?_
      refine wx_ai (pc := 56) dX11_without_56 V (fun y3 V => ?_)
      refine wq_aload_n (pc := 57) dX11_without_57 rfl rfl ?_
      refine gfq835 (pc := 58) rfl dX11_without_58 V (fun a4 V => ?_)
      refine wq_iload_n (pc := 61) dX11_without_61 rfl rfl ?_
      refine wx_ai (pc := 62) dX11_without_62 V (fun y5 V => ?_)
      refine wq_iadd (pc := 63) dX11_without_63 ?_
      refine wx_si (pc := 64) dX11_without_64 V (fun h6 V => ?_)
      refine wq_iinc (L' := [some (.ref x0), some (.int x1), some (.ref x2), some (.int (x3 + (1 : Int32)))]) (pc := 65) dX11_without_65 rfl (by rw [gsti1]) (Nat.le_of_ble_eq_true rfl) rfl ?_
      refine wq_goto (pc := 68) (tgt := 29) dX11_without_68 rfl ?_
      exact wq_T.less V ⟨rfl, ⟨rfl, ⟨rfl, ⟨rfl, trivial⟩⟩⟩⟩
    · have V := V.2 c
      refine wq_iload_n (pc := 46) dX11_without_46 rfl rfl ?_
      refine wq_iconst (pc := 47) dX11_without_47 gsti2 ?_
      refine wq_irem (pc := 48) dX11_without_48 (by decide) ?_
      refine wq_goto (pc := 49) (tgt := 55) dX11_without_49 rfl ?_
      refine wq_dup2 (pc := 55) dX11_without_55 rfl rfl ?_
      refine wx_ai (pc := 56) dX11_without_56 V (fun y7 V => ?_)
      refine wq_aload_n (pc := 57) dX11_without_57 rfl rfl ?_
      refine gfq835 (pc := 58) rfl dX11_without_58 V (fun a8 V => ?_)
      refine wq_iload_n (pc := 61) dX11_without_61 rfl rfl ?_
      refine wx_ai (pc := 62) dX11_without_62 V (fun y9 V => ?_)
      refine wq_iadd (pc := 63) dX11_without_63 ?_
      refine wx_si (pc := 64) dX11_without_64 V (fun h10 V => ?_)
      refine wq_iinc (L' := [some (.ref x0), some (.int x1), some (.ref x2), some (.int (x3 + (1 : Int32)))]) (pc := 65) dX11_without_65 rfl (by rw [gsti1]) (Nat.le_of_ble_eq_true rfl) rfl ?_
      refine wq_goto (pc := 68) (tgt := 29) dX11_without_68 rfl ?_
      exact wq_T.less V ⟨rfl, ⟨rfl, ⟨rfl, ⟨rfl, trivial⟩⟩⟩⟩
theorem vX12_init_0 {G : wq_G} {l : Launch} {d C S : Nat} {K : wq_H → Prop} (hd1 : 1 ≤ d) {x0 : Nat} {x1 : Int32} {x2 : Int32} {h : wq_H} (V : wq_pf G h x0 [(10, 0)] (.int x1) (fun h1 => wq_pf G h1 x0 [(10, 1)] (.int x2) (fun h2 => K h2))) : wq_T G l d mX12_init (wq_qv K) 0 [some (.ref x0), some (.int x1), some (.int x2)] [] h C S := by
  refine wq_aload_n (pc := 0) dX12_init_0 rfl rfl ?_
  refine wq_objInit (pc := 1) q892 q157 q158 dX12_init_1 (Nat.le_of_ble_eq_true rfl) hd1 ?_
  refine wq_aload_n (pc := 4) dX12_init_4 rfl rfl ?_
  refine wq_iload_n (pc := 5) dX12_init_5 rfl rfl ?_
  refine pfq893 (pc := 6) rfl rfl dX12_init_6 ⟨rfl, rfl⟩ V (fun h1 V => ?_)
  refine wq_aload_n (pc := 9) dX12_init_9 rfl rfl ?_
  refine wq_iload_n (pc := 10) dX12_init_10 rfl rfl ?_
  refine pfq894 (pc := 11) rfl rfl dX12_init_11 ⟨rfl, rfl⟩ V (fun h2 V => ?_)
  refine wq_vret (pc := 14) dX12_init_14 rfl ⟨rfl, V⟩
theorem vX12_isSo_0 {G : wq_G} {l : Launch} {d C S : Nat} {K : Int32 → wq_H → Prop} {x0 : Nat} {x1 : Int32} {h : wq_H} (V : wq_gI h x0 [(10, 0)] (fun y1 => wq_ci G l d C S mX1_bits [.int (x1 &&& y1)] h (fun y5 h2 C3 S4 => wq_gI h2 x0 [(10, 1)] (fun y6 => (¬ (y5 - y5 / (2 : Int32) * (2 : Int32)) = y6 → K (0 : Int32) h2) ∧ ((y5 - y5 / (2 : Int32) * (2 : Int32)) = y6 → K (1 : Int32) h2))))) : wq_T G l d mX12_isSo (wq_qi K) 0 [some (.ref x0), some (.int x1)] [] h C S := by
  refine wq_iload_n (pc := 0) dX12_isSo_0 rfl rfl ?_
  refine wq_aload_n (pc := 1) dX12_isSo_1 rfl rfl ?_
  refine gfq893 (pc := 2) rfl dX12_isSo_2 V (fun y1 V => ?_)
  refine wq_iand (pc := 5) dX12_isSo_5 ?_
  refine clq1296 (pc := 6) (As := [.int (x1 &&& y1)]) (st := []) rfl dX12_isSo_6 rfl (Nat.le_of_ble_eq_true rfl) V (fun C3 S4 => wx_ki (fun y5 h2 V => ?_))
  refine wq_iconst (pc := 9) dX12_isSo_9 gsti2 ?_
  refine wq_irem (pc := 10) dX12_isSo_10 (by decide) ?_
  refine wq_aload_n (pc := 11) dX12_isSo_11 rfl rfl ?_
  refine gfq894 (pc := 12) rfl dX12_isSo_12 V (fun y6 V => ?_)
  refine wq_icmp_ne (pc := 15) (tgt := 22) dX12_isSo_15 rfl (fun c => ?_) (fun c => ?_)
  · have V := V.1 c
    refine wq_iconst (pc := 22) dX12_isSo_22 gsti0 ?_
    refine wq_zret (pc := 23) dX12_isSo_23 rfl gn_b0 ⟨_, rfl, V⟩
  · have V := V.2 c
    refine wq_iconst (pc := 18) dX12_isSo_18 gsti1 ?_
    refine wq_goto (pc := 19) (tgt := 23) dX12_isSo_19 rfl ?_
    refine wq_zret (pc := 23) dX12_isSo_23 rfl gn_b1 ⟨_, rfl, V⟩
theorem vX13_init_0 {G : wq_G} {l : Launch} {d C S : Nat} {K : wq_H → Prop} (hd1 : 1 ≤ d) {x0 : Nat} {h : wq_H} (V : wq_na G h (.inl (G.2.2.1 0, 4, .inl (fun _ => 0))) (4 : Int32) 4 C S (fun a1 h2 => wq_pf G h2 x0 [(11, 0)] (.ref a1) (fun h3 => K h3))) : wq_T G l d mX13_init (wq_qv K) 0 [some (.ref x0)] [] h C S := by
  refine wq_aload_n (pc := 0) dX13_init_0 rfl rfl ?_
  refine wq_objInit (pc := 1) q909 q157 q158 dX13_init_1 (Nat.le_of_ble_eq_true rfl) hd1 ?_
  refine wq_aload_n (pc := 4) dX13_init_4 rfl rfl ?_
  refine wq_iconst (pc := 5) dX13_init_5 gsti4 ?_
  refine wx_nI (pc := 6) q187 dX13_init_6 V (fun a1 h2 V => ?_)
  refine pfq910 (pc := 8) rfl rfl dX13_init_8 (wq_nfr rfl (some a1)) V (fun h3 V => ?_)
  refine wq_vret (pc := 11) dX13_init_11 rfl ⟨rfl, V⟩
theorem vX13_isSquare_0 {G : wq_G} {l : Launch} {d C S : Nat} {K : Int32 → wq_H → Prop} {x0 : Nat} {x1 : Nat} {h : wq_H} (V : wq_T G l d mX13_isSquare (wq_qi K) 4 [some (.ref x0), some (.ref x1), some (.int (0 : Int32)), some (.int (0 : Int32))] [] h C S) : wq_T G l d mX13_isSquare (wq_qi K) 0 [some (.ref x0), some (.ref x1), none, none] [] h C S := by
  refine wq_iconst (pc := 0) dX13_isSquare_0 gsti0 ?_
  refine wq_istore_n (L' := [some (.ref x0), some (.ref x1), some (.int (0 : Int32)), none]) (pc := 1) dX13_isSquare_1 rfl (Nat.le_of_ble_eq_true rfl) rfl ?_
  refine wq_iconst (pc := 2) dX13_isSquare_2 gsti0 ?_
  refine wq_istore_n (L' := [some (.ref x0), some (.ref x1), some (.int (0 : Int32)), some (.int (0 : Int32))]) (pc := 3) dX13_isSquare_3 rfl (Nat.le_of_ble_eq_true rfl) rfl ?_
  exact wq_T.less V ⟨rfl, ⟨rfl, ⟨rfl, ⟨rfl, trivial⟩⟩⟩⟩
theorem vX13_isSquare_4 {G : wq_G} {l : Launch} {d C S : Nat} {K : Int32 → wq_H → Prop} {x0 : Nat} {x1 : Nat} {x2 : Int32} {x3 : Int32} {h : wq_H} (V : ((4 : Int32) ≤ x3 → (¬ x2 = 0 → K (0 : Int32) h) ∧ (x2 = 0 → K (1 : Int32) h)) ∧ (¬ (4 : Int32) ≤ x3 → wq_gR h x0 [(11, 0)] (fun a1 => wq_ai G h a1 x3 (fun y2 => wq_gR h x1 [(11, 0)] (fun a3 => wq_ai G h a3 x3 (fun y4 => wq_T G l d mX13_isSquare (wq_qi K) 4 [some (.ref x0), some (.ref x1), some (.int (x2 + (y2 * y4))), some (.int (x3 + (1 : Int32)))] [] h C S)))))) : wq_T G l d mX13_isSquare (wq_qi K) 4 [some (.ref x0), some (.ref x1), some (.int x2), some (.int x3)] [] h C S := by
  refine wq_iload_n (pc := 4) dX13_isSquare_4 rfl rfl ?_
  refine wq_iconst (pc := 5) dX13_isSquare_5 gsti4 ?_
  refine wq_icmp_ge (pc := 6) (tgt := 31) dX13_isSquare_6 rfl (fun c => ?_) (fun c => ?_)
  · have V := V.1 c
    refine wq_iload_n (pc := 31) dX13_isSquare_31 rfl rfl ?_
    refine wq_if_ne (pc := 32) (tgt := 39) dX13_isSquare_32 rfl (fun c => ?_) (fun c => ?_)
    · have V := V.1 c
      refine wq_iconst (pc := 39) dX13_isSquare_39 gsti0 ?_
      refine wq_zret (pc := 40) dX13_isSquare_40 rfl gn_b0 ⟨_, rfl, V⟩
    · have V := V.2 c
      refine wq_iconst (pc := 35) dX13_isSquare_35 gsti1 ?_
      refine wq_goto (pc := 36) (tgt := 40) dX13_isSquare_36 rfl ?_
      refine wq_zret (pc := 40) dX13_isSquare_40 rfl gn_b1 ⟨_, rfl, V⟩
  · have V := V.2 c
    refine wq_iload_n (pc := 9) dX13_isSquare_9 rfl rfl ?_
    refine wq_aload_n (pc := 10) dX13_isSquare_10 rfl rfl ?_
    refine gfq910 (pc := 11) rfl dX13_isSquare_11 V (fun a1 V => ?_)
    refine wq_iload_n (pc := 14) dX13_isSquare_14 rfl rfl ?_
    refine wx_ai (pc := 15) dX13_isSquare_15 V (fun y2 V => ?_)
    refine wq_aload_n (pc := 16) dX13_isSquare_16 rfl rfl ?_
    refine gfq910 (pc := 17) rfl dX13_isSquare_17 V (fun a3 V => ?_)
    refine wq_iload_n (pc := 20) dX13_isSquare_20 rfl rfl ?_
    refine wx_ai (pc := 21) dX13_isSquare_21 V (fun y4 V => ?_)
    refine wq_imul (pc := 22) dX13_isSquare_22 ?_
    refine wq_iadd (pc := 23) dX13_isSquare_23 ?_
    refine wq_istore_n (L' := [some (.ref x0), some (.ref x1), some (.int (x2 + (y2 * y4))), some (.int x3)]) (pc := 24) dX13_isSquare_24 rfl (Nat.le_of_ble_eq_true rfl) rfl ?_
    refine wq_iinc (L' := [some (.ref x0), some (.ref x1), some (.int (x2 + (y2 * y4))), some (.int (x3 + (1 : Int32)))]) (pc := 25) dX13_isSquare_25 rfl (by rw [gsti1]) (Nat.le_of_ble_eq_true rfl) rfl ?_
    refine wq_goto (pc := 28) (tgt := 4) dX13_isSquare_28 rfl ?_
    exact wq_T.less V ⟨rfl, ⟨rfl, ⟨rfl, ⟨rfl, trivial⟩⟩⟩⟩
theorem vX14_init_0 {G : wq_G} {l : Launch} {d C S : Nat} {K : wq_H → Prop} (hd1 : 1 ≤ d) {x0 : Nat} {h : wq_H} (V : wq_na G h (.inl (G.2.2.1 0, 6, .inl (fun _ => 0))) (6 : Int32) 6 C S (fun a1 h2 => wq_pf G h2 x0 [(12, 0)] (.ref a1) (fun h3 => wq_na G h3 (.inl (G.2.2.1 0, 6, .inl (fun _ => 0))) (6 : Int32) 6 (C - 1) (S - 6) (fun a4 h5 => wq_pf G h5 x0 [(12, 1)] (.ref a4) (fun h6 => K h6))))) : wq_T G l d mX14_init (wq_qv K) 0 [some (.ref x0)] [] h C S := by
  refine wq_aload_n (pc := 0) dX14_init_0 rfl rfl ?_
  refine wq_objInit (pc := 1) q924 q157 q158 dX14_init_1 (Nat.le_of_ble_eq_true rfl) hd1 ?_
  refine wq_aload_n (pc := 4) dX14_init_4 rfl rfl ?_
  refine wq_bipush (pc := 5) dX14_init_5 gstb6 ?_
  refine wx_nI (pc := 7) q187 dX14_init_7 V (fun a1 h2 V => ?_)
  refine pfq925 (pc := 9) rfl rfl dX14_init_9 (wq_nfr rfl (some a1)) V (fun h3 V => ?_)
  refine wq_aload_n (pc := 12) dX14_init_12 rfl rfl ?_
  refine wq_bipush (pc := 13) dX14_init_13 gstb6 ?_
  refine wx_nI (pc := 15) q187 dX14_init_15 V (fun a4 h5 V => ?_)
  refine pfq928 (pc := 17) rfl rfl dX14_init_17 (wq_nfr rfl (some a4)) V (fun h6 V => ?_)
  refine wq_vret (pc := 20) dX14_init_20 rfl ⟨rfl, V⟩
theorem vX15_init_0 {G : wq_G} {l : Launch} {d C S : Nat} {K : wq_H → Prop} (hd1 : 1 ≤ d) {x0 : Nat} {x1 : Nat} {x2 : Int32} {h : wq_H} (V : wq_na G h (.inl (G.2.2.1 0, 18, .inl (fun _ => 0))) (18 : Int32) 18 C S (fun a1 h2 => wq_pf G h2 x0 [(13, 2)] (.ref a1) (fun h3 => wq_no G h3 16 [.int 0, .null, .int 0] 3 (C - 1) (S - 18) (fun a4 h5 => wq_cw G l d ((C - 1) - 1) ((S - 18) - 3) mJ2_init [.ref a4] h5 (fun h6 C7 S8 => wq_pf G h6 x0 [(13, 3)] (.ref a4) (fun h9 => wq_pf G h9 x0 [(13, 5)] (.int (-1 : Int32)) (fun h10 => wq_gR h10 x1 [(5, 5)] (fun a11 => ∃ fs16 : List Value, h10 a11 = some (.inr (16, fs16)) ∧ (wq_ci G l d C7 S8 mJ2_size [.ref a11] h10 (fun y15 h12 C13 S14 => wq_pf G h12 x0 [(13, 0)] (.int y15) (fun h18 => wq_gI h18 x0 [(13, 0)] (fun y19 => wq_pf G h18 x0 [(13, 1)] (.int ((((1 : Int32) <<< (y19 &&& 31)) - (1 : Int32)) &&& (x2 ^^^ (-1 : Int32)))) (fun h20 => wq_T G l d mX15_init (wq_qv K) 57 [some (.ref x0), some (.ref x1), none, some (.int (0 : Int32)), none] [] h20 C13 S14))))))))))))) : wq_T G l d mX15_init (wq_qv K) 0 [some (.ref x0), some (.ref x1), some (.int x2), none, none] [] h C S := by
  refine wq_aload_n (pc := 0) dX15_init_0 rfl rfl ?_
  refine wq_objInit (pc := 1) q1346 q157 q158 dX15_init_1 (Nat.le_of_ble_eq_true rfl) hd1 ?_
  refine wq_aload_n (pc := 4) dX15_init_4 rfl rfl ?_
  refine wq_bipush (pc := 5) dX15_init_5 gstb18 ?_
  refine wx_nI (pc := 7) q187 dX15_init_7 V (fun a1 h2 V => ?_)
  refine pfq1381 (pc := 9) rfl rfl dX15_init_9 (wq_nfr rfl (some a1)) V (fun h3 V => ?_)
  refine wq_aload_n (pc := 12) dX15_init_12 rfl rfl ?_
  refine nwq1347 (pc := 13) rfl dX15_init_13 V (fun a4 h5 V => ?_)
  refine wq_dup (pc := 16) dX15_init_16 rfl ?_
  refine clq1348 (pc := 17) (As := []) (st := [.ref a4, .ref x0]) rfl dX15_init_17 rfl (Nat.le_of_ble_eq_true rfl) V (fun C7 S8 => wx_kv (fun h6 V => ?_))
  refine pfq1382 (pc := 20) rfl rfl dX15_init_20 (wq_nfr rfl (some a4)) V (fun h9 V => ?_)
  refine wq_aload_n (pc := 23) dX15_init_23 rfl rfl ?_
  refine wq_iconst (pc := 24) dX15_init_24 gstim1 ?_
  refine pfq1385 (pc := 25) rfl dX15_init_25 ⟨rfl, rfl⟩ V (fun h10 V => ?_)
  refine wq_aload_n (pc := 28) dX15_init_28 rfl rfl ?_
  refine wq_aload_n (pc := 29) dX15_init_29 rfl rfl ?_
  refine gfq321 (pc := 30) rfl dX15_init_30 V (fun a11 V => ?_)
  obtain ⟨fs16, w17, V⟩ := V
  refine clq1349 (pc := 33) (As := []) (st := [.ref x0]) rfl dX15_init_33 rfl (Nat.le_of_ble_eq_true rfl) w17 V (fun C13 S14 => wx_ki (fun y15 h12 V => ?_))
  refine pfq1379 (pc := 36) rfl rfl dX15_init_36 ⟨rfl, rfl⟩ V (fun h18 V => ?_)
  refine wq_aload_n (pc := 39) dX15_init_39 rfl rfl ?_
  refine wq_iconst (pc := 40) dX15_init_40 gsti1 ?_
  refine wq_aload_n (pc := 41) dX15_init_41 rfl rfl ?_
  refine gfq1379 (pc := 42) rfl dX15_init_42 V (fun y19 V => ?_)
  refine wq_ishl (pc := 45) dX15_init_45 ?_
  refine wq_iconst (pc := 46) dX15_init_46 gsti1 ?_
  refine wq_isub (pc := 47) dX15_init_47 ?_
  refine wq_iload_n (pc := 48) dX15_init_48 rfl rfl ?_
  refine wq_iconst (pc := 49) dX15_init_49 gstim1 ?_
  refine wq_ixor (pc := 50) dX15_init_50 ?_
  refine wq_iand (pc := 51) dX15_init_51 ?_
  refine pfq1380 (pc := 52) rfl rfl dX15_init_52 ⟨rfl, rfl⟩ V (fun h20 V => ?_)
  refine wq_iconst (pc := 55) dX15_init_55 gsti0 ?_
  refine wq_istore_n (L' := [some (.ref x0), some (.ref x1), some (.int x2), some (.int (0 : Int32)), none]) (pc := 56) dX15_init_56 rfl (Nat.le_of_ble_eq_true rfl) rfl ?_
  exact wq_T.less V ⟨rfl, ⟨rfl, ⟨rfl, trivial⟩⟩⟩
theorem vX15_init_57 {G : wq_G} {l : Launch} {d C S : Nat} {K : wq_H → Prop} {x0 : Nat} {x1 : Nat} {x3 : Int32} {h : wq_H} (V : wq_gI h x0 [(13, 0)] (fun y1 => (y1 ≤ x3 → wq_T G l d mX15_init (wq_qv K) 162 [some (.ref x0), none, none, some (.int (0 : Int32)), none] [] h C S) ∧ (¬ y1 ≤ x3 → wq_T G l d mX15_init (wq_qv K) 68 [some (.ref x0), some (.ref x1), none, some (.int x3), some (.int (0 : Int32))] [] h C S))) : wq_T G l d mX15_init (wq_qv K) 57 [some (.ref x0), some (.ref x1), none, some (.int x3), none] [] h C S := by
  refine wq_iload_n (pc := 57) dX15_init_57 rfl rfl ?_
  refine wq_aload_n (pc := 58) dX15_init_58 rfl rfl ?_
  refine gfq1379 (pc := 59) rfl dX15_init_59 V (fun y1 V => ?_)
  refine wq_icmp_ge (pc := 62) (tgt := 160) dX15_init_62 rfl (fun c => ?_) (fun c => ?_)
  · have V := V.1 c
    refine wq_iconst (pc := 160) dX15_init_160 gsti0 ?_
    refine wq_istore_n (L' := [some (.ref x0), some (.ref x1), none, some (.int (0 : Int32)), none]) (pc := 161) dX15_init_161 rfl (Nat.le_of_ble_eq_true rfl) rfl ?_
    exact wq_T.less V ⟨rfl, ⟨rfl, trivial⟩⟩
  · have V := V.2 c
    refine wq_iconst (pc := 65) dX15_init_65 gsti0 ?_
    refine wq_istore (L' := [some (.ref x0), some (.ref x1), none, some (.int x3), some (.int (0 : Int32))]) (pc := 66) dX15_init_66 (Nat.le_of_ble_eq_true rfl) rfl ?_
    exact wq_T.less V ⟨rfl, ⟨rfl, ⟨rfl, ⟨rfl, trivial⟩⟩⟩⟩
theorem vX15_init_68 {G : wq_G} {l : Launch} {d C S : Nat} {K : wq_H → Prop} {x0 : Nat} {x1 : Nat} {x3 : Int32} {x4 : Int32} {h : wq_H} (V : wq_gI h x0 [(13, 0)] (fun y1 => (y1 ≤ x4 → wq_T G l d mX15_init (wq_qv K) 57 [some (.ref x0), some (.ref x1), none, some (.int (x3 + (1 : Int32))), none] [] h C S) ∧ (¬ y1 ≤ x4 → (x3 = x4 → wq_T G l d mX15_init (wq_qv K) 68 [some (.ref x0), some (.ref x1), none, some (.int x3), some (.int (x4 + (1 : Int32)))] [] h C S) ∧ (¬ x3 = x4 → wq_gI h x0 [(13, 1)] (fun y2 => wq_ci G l d C S mX1_has [.int y2, .int x3] h (fun y6 h3 C4 S5 => (y6 = 0 → wq_T G l d mX15_init (wq_qv K) 68 [some (.ref x0), some (.ref x1), none, some (.int x3), some (.int (x4 + (1 : Int32)))] [] h3 C4 S5) ∧ (¬ y6 = 0 → wq_gI h3 x0 [(13, 1)] (fun y7 => wq_ci G l d C4 S5 mX1_has [.int y7, .int x4] h3 (fun y11 h8 C9 S10 => (y11 = 0 → wq_T G l d mX15_init (wq_qv K) 68 [some (.ref x0), some (.ref x1), none, some (.int x3), some (.int (x4 + (1 : Int32)))] [] h8 C9 S10) ∧ (¬ y11 = 0 → wq_gR h8 x1 [(5, 5)] (fun a12 => ∃ fs17 : List Value, h8 a12 = some (.inr (16, fs17)) ∧ (wq_cq G l d C9 S10 mJ2_get [.ref a12, .int x3] h8 (fun r16 h13 C14 S15 => wq_ct h13 r16 [11] (fun a19 => wq_gR h13 x1 [(5, 5)] (fun a20 => ∃ fs25 : List Value, h13 a20 = some (.inr (16, fs25)) ∧ (wq_cq G l d C14 S15 mJ2_get [.ref a20, .int x4] h13 (fun r24 h21 C22 S23 => wq_ct h21 r24 [11] (fun a27 => ∃ fs32 : List Value, h21 a19 = some (.inr (11, fs32)) ∧ (wq_ci G l d C22 S23 mX13_isSquare [.ref a19, .ref a27] h21 (fun y31 h28 C29 S30 => (y31 = 0 → wq_T G l d mX15_init (wq_qv K) 68 [some (.ref x0), some (.ref x1), none, some (.int x3), some (.int (x4 + (1 : Int32)))] [] h28 C29 S30) ∧ (¬ y31 = 0 → wq_gR h28 x0 [(13, 2)] (fun a34 => wq_ai G h28 a34 x3 (fun y35 => wq_si G h28 a34 x3 (y35 ||| ((1 : Int32) <<< (x4 &&& 31))) (fun h36 => wq_T G l d mX15_init (wq_qv K) 68 [some (.ref x0), some (.ref x1), none, some (.int x3), some (.int (x4 + (1 : Int32)))] [] h36 C29 S30)))))))))))))))))))))))) : wq_T G l d mX15_init (wq_qv K) 68 [some (.ref x0), some (.ref x1), none, some (.int x3), some (.int x4)] [] h C S := by
  refine wq_iload (pc := 68) dX15_init_68 rfl ?_
  refine wq_aload_n (pc := 70) dX15_init_70 rfl rfl ?_
  refine gfq1379 (pc := 71) rfl dX15_init_71 V (fun y1 V => ?_)
  refine wq_icmp_ge (pc := 74) (tgt := 154) dX15_init_74 rfl (fun c => ?_) (fun c => ?_)
  · have V := V.1 c
    refine wq_iinc (L' := [some (.ref x0), some (.ref x1), none, some (.int (x3 + (1 : Int32))), some (.int x4)]) (pc := 154) dX15_init_154 rfl (by rw [gsti1]) (Nat.le_of_ble_eq_true rfl) rfl ?_
    refine wq_goto (pc := 157) (tgt := 57) dX15_init_157 rfl ?_
    exact wq_T.less V ⟨rfl, ⟨rfl, ⟨rfl, trivial⟩⟩⟩
  · have V := V.2 c
    refine wq_iload_n (pc := 77) dX15_init_77 rfl rfl ?_
    refine wq_iload (pc := 78) dX15_init_78 rfl ?_
    refine wq_icmp_eq (pc := 80) (tgt := 148) dX15_init_80 rfl (fun c => ?_) (fun c => ?_)
    · have V := V.1 c
      refine wq_iinc (L' := [some (.ref x0), some (.ref x1), none, some (.int x3), some (.int (x4 + (1 : Int32)))]) (pc := 148) dX15_init_148 rfl (by rw [gsti1]) (Nat.le_of_ble_eq_true rfl) rfl ?_
      refine wq_goto (pc := 151) (tgt := 68) dX15_init_151 rfl ?_
      exact wq_T.less V ⟨rfl, ⟨rfl, ⟨rfl, ⟨rfl, trivial⟩⟩⟩⟩
    · have V := V.2 c
      refine wq_aload_n (pc := 83) dX15_init_83 rfl rfl ?_
      refine gfq1380 (pc := 84) rfl dX15_init_84 V (fun y2 V => ?_)
      refine wq_iload_n (pc := 87) dX15_init_87 rfl rfl ?_
      refine clq1350 (pc := 88) (As := [.int y2, .int x3]) (st := []) rfl dX15_init_88 rfl (Nat.le_of_ble_eq_true rfl) V (fun C4 S5 => wx_ki (fun y6 h3 V => ?_))
      refine wq_if_eq (pc := 91) (tgt := 148) dX15_init_91 rfl (fun c => ?_) (fun c => ?_)
      · have V := V.1 c
        refine wq_iinc (L' := [some (.ref x0), some (.ref x1), none, some (.int x3), some (.int (x4 + (1 : Int32)))]) (pc := 148) dX15_init_148 rfl (by rw [gsti1]) (Nat.le_of_ble_eq_true rfl) rfl ?_
        refine wq_goto (pc := 151) (tgt := 68) dX15_init_151 rfl ?_
        exact wq_T.less V ⟨rfl, ⟨rfl, ⟨rfl, ⟨rfl, trivial⟩⟩⟩⟩
      · have V := V.2 c
        refine wq_aload_n (pc := 94) dX15_init_94 rfl rfl ?_
        refine gfq1380 (pc := 95) rfl dX15_init_95 V (fun y7 V => ?_)
        refine wq_iload (pc := 98) dX15_init_98 rfl ?_
        refine clq1350 (pc := 100) (As := [.int y7, .int x4]) (st := []) rfl dX15_init_100 rfl (Nat.le_of_ble_eq_true rfl) V (fun C9 S10 => wx_ki (fun y11 h8 V => ?_))
        refine wq_if_eq (pc := 103) (tgt := 148) dX15_init_103 rfl (fun c => ?_) (fun c => ?_)
        · have V := V.1 c
          refine wq_iinc (L' := [some (.ref x0), some (.ref x1), none, some (.int x3), some (.int (x4 + (1 : Int32)))]) (pc := 148) dX15_init_148 rfl (by rw [gsti1]) (Nat.le_of_ble_eq_true rfl) rfl ?_
          refine wq_goto (pc := 151) (tgt := 68) dX15_init_151 rfl ?_
          exact wq_T.less V ⟨rfl, ⟨rfl, ⟨rfl, ⟨rfl, trivial⟩⟩⟩⟩
        · have V := V.2 c
          refine wq_aload_n (pc := 106) dX15_init_106 rfl rfl ?_
          refine gfq321 (pc := 107) rfl dX15_init_107 V (fun a12 V => ?_)
          refine wq_iload_n (pc := 110) dX15_init_110 rfl rfl ?_
          obtain ⟨fs17, w18, V⟩ := V
          refine clq1351 (pc := 111) (As := [.int x3]) (st := []) rfl dX15_init_111 rfl (Nat.le_of_ble_eq_true rfl) w18 V (fun C14 S15 => wx_kq (fun r16 h13 V => ?_))
          refine ctq1352 (r := r16) (pc := 114) rfl dX15_init_114 V (fun a19 V => ?_)
          refine wq_aload_n (pc := 117) dX15_init_117 rfl rfl ?_
          refine gfq321 (pc := 118) rfl dX15_init_118 V (fun a20 V => ?_)
          refine wq_iload (pc := 121) dX15_init_121 rfl ?_
          obtain ⟨fs25, w26, V⟩ := V
          refine clq1351 (pc := 123) (As := [.int x4]) (st := [.ref a19]) rfl dX15_init_123 rfl (Nat.le_of_ble_eq_true rfl) w26 V (fun C22 S23 => wx_kq (fun r24 h21 V => ?_))
          refine ctq1352 (r := r24) (pc := 126) rfl dX15_init_126 V (fun a27 V => ?_)
          obtain ⟨fs32, w33, V⟩ := V
          refine clq1353 (pc := 129) (As := [.ref a27]) (st := []) rfl dX15_init_129 rfl (Nat.le_of_ble_eq_true rfl) w33 V (fun C29 S30 => wx_ki (fun y31 h28 V => ?_))
          refine wq_if_eq (pc := 132) (tgt := 148) dX15_init_132 rfl (fun c => ?_) (fun c => ?_)
          · have V := V.1 c
            refine wq_iinc (L' := [some (.ref x0), some (.ref x1), none, some (.int x3), some (.int (x4 + (1 : Int32)))]) (pc := 148) dX15_init_148 rfl (by rw [gsti1]) (Nat.le_of_ble_eq_true rfl) rfl ?_
            refine wq_goto (pc := 151) (tgt := 68) dX15_init_151 rfl ?_
            exact wq_T.less V ⟨rfl, ⟨rfl, ⟨rfl, ⟨rfl, trivial⟩⟩⟩⟩
          · have V := V.2 c
            refine wq_aload_n (pc := 135) dX15_init_135 rfl rfl ?_
            refine gfq1381 (pc := 136) rfl dX15_init_136 V (fun a34 V => ?_)
            refine wq_iload_n (pc := 139) dX15_init_139 rfl rfl ?_
            refine wq_dup2 (pc := 140) dX15_init_140 rfl rfl ?_
            refine wx_ai (pc := 141) dX15_init_141 V (fun y35 V => ?_)
            refine wq_iconst (pc := 142) dX15_init_142 gsti1 ?_
            refine wq_iload (pc := 143) dX15_init_143 rfl ?_
            refine wq_ishl (pc := 145) dX15_init_145 ?_
            refine wq_ior (pc := 146) dX15_init_146 ?_
            refine wx_si (pc := 147) dX15_init_147 V (fun h36 V => ?_)
            refine wq_iinc (L' := [some (.ref x0), some (.ref x1), none, some (.int x3), some (.int (x4 + (1 : Int32)))]) (pc := 148) dX15_init_148 rfl (by rw [gsti1]) (Nat.le_of_ble_eq_true rfl) rfl ?_
            refine wq_goto (pc := 151) (tgt := 68) dX15_init_151 rfl ?_
            exact wq_T.less V ⟨rfl, ⟨rfl, ⟨rfl, ⟨rfl, trivial⟩⟩⟩⟩
theorem vX15_init_162 {G : wq_G} {l : Launch} {d C S : Nat} {K : wq_H → Prop} {x0 : Nat} {x3 : Int32} {h : wq_H} (V : wq_gI h x0 [(13, 0)] (fun y1 => (y1 ≤ x3 → K h) ∧ (¬ y1 ≤ x3 → wq_T G l d mX15_init (wq_qv K) 175 [some (.ref x0), none, none, some (.int x3), some (.int (x3 + (1 : Int32)))] [] h C S))) : wq_T G l d mX15_init (wq_qv K) 162 [some (.ref x0), none, none, some (.int x3), none] [] h C S := by
  refine wq_iload_n (pc := 162) dX15_init_162 rfl rfl ?_
  refine wq_aload_n (pc := 163) dX15_init_163 rfl rfl ?_
  refine gfq1379 (pc := 164) rfl dX15_init_164 V (fun y1 V => ?_)
  refine wq_icmp_ge (pc := 167) (tgt := 217) dX15_init_167 rfl (fun c => ?_) (fun c => ?_)
  · have V := V.1 c
    refine wq_vret (pc := 217) dX15_init_217 rfl ⟨rfl, V⟩
  · have V := V.2 c
    refine wq_iload_n (pc := 170) dX15_init_170 rfl rfl ?_
    refine wq_iconst (pc := 171) dX15_init_171 gsti1 ?_
    refine wq_iadd (pc := 172) dX15_init_172 ?_
    refine wq_istore (L' := [some (.ref x0), none, none, some (.int x3), some (.int (x3 + (1 : Int32)))]) (pc := 173) dX15_init_173 (Nat.le_of_ble_eq_true rfl) rfl ?_
    exact wq_T.less V ⟨rfl, ⟨rfl, ⟨rfl, trivial⟩⟩⟩
theorem vX15_init_175 {G : wq_G} {l : Launch} {d C S : Nat} {K : wq_H → Prop} {x0 : Nat} {x3 : Int32} {x4 : Int32} {h : wq_H} (V : wq_gI h x0 [(13, 0)] (fun y1 => (y1 ≤ x4 → wq_T G l d mX15_init (wq_qv K) 162 [some (.ref x0), none, none, some (.int (x3 + (1 : Int32))), none] [] h C S) ∧ (¬ y1 ≤ x4 → wq_gR h x0 [(13, 2)] (fun a2 => wq_ai G h a2 x3 (fun y3 => wq_ci G l d C S mX1_has [.int y3, .int x4] h (fun y7 h4 C5 S6 => (y7 = 0 → wq_T G l d mX15_init (wq_qv K) 175 [some (.ref x0), none, none, some (.int x3), some (.int (x4 + (1 : Int32)))] [] h4 C5 S6) ∧ (¬ y7 = 0 → ∃ fs11 : List Value, h4 x0 = some (.inr (13, fs11)) ∧ (wq_cw G l d C5 S6 mX15_findsCorners [.ref x0, .int x3, .int x4] h4 (fun h8 C9 S10 => wq_T G l d mX15_init (wq_qv K) 175 [some (.ref x0), none, none, some (.int x3), some (.int (x4 + (1 : Int32)))] [] h8 C9 S10))))))))) : wq_T G l d mX15_init (wq_qv K) 175 [some (.ref x0), none, none, some (.int x3), some (.int x4)] [] h C S := by
  refine wq_iload (pc := 175) dX15_init_175 rfl ?_
  refine wq_aload_n (pc := 177) dX15_init_177 rfl rfl ?_
  refine gfq1379 (pc := 178) rfl dX15_init_178 V (fun y1 V => ?_)
  refine wq_icmp_ge (pc := 181) (tgt := 211) dX15_init_181 rfl (fun c => ?_) (fun c => ?_)
  · have V := V.1 c
    refine wq_iinc (L' := [some (.ref x0), none, none, some (.int (x3 + (1 : Int32))), some (.int x4)]) (pc := 211) dX15_init_211 rfl (by rw [gsti1]) (Nat.le_of_ble_eq_true rfl) rfl ?_
    refine wq_goto (pc := 214) (tgt := 162) dX15_init_214 rfl ?_
    exact wq_T.less V ⟨rfl, ⟨rfl, trivial⟩⟩
  · have V := V.2 c
    refine wq_aload_n (pc := 184) dX15_init_184 rfl rfl ?_
    refine gfq1381 (pc := 185) rfl dX15_init_185 V (fun a2 V => ?_)
    refine wq_iload_n (pc := 188) dX15_init_188 rfl rfl ?_
    refine wx_ai (pc := 189) dX15_init_189 V (fun y3 V => ?_)
    refine wq_iload (pc := 190) dX15_init_190 rfl ?_
    refine clq1350 (pc := 192) (As := [.int y3, .int x4]) (st := []) rfl dX15_init_192 rfl (Nat.le_of_ble_eq_true rfl) V (fun C5 S6 => wx_ki (fun y7 h4 V => ?_))
    refine wq_if_eq (pc := 195) (tgt := 205) dX15_init_195 rfl (fun c => ?_) (fun c => ?_)
    · have V := V.1 c
      refine wq_iinc (L' := [some (.ref x0), none, none, some (.int x3), some (.int (x4 + (1 : Int32)))]) (pc := 205) dX15_init_205 rfl (by rw [gsti1]) (Nat.le_of_ble_eq_true rfl) rfl ?_
      refine wq_goto (pc := 208) (tgt := 175) dX15_init_208 rfl ?_
      exact wq_T.less V ⟨rfl, ⟨rfl, ⟨rfl, trivial⟩⟩⟩
    · have V := V.2 c
      refine wq_aload_n (pc := 198) dX15_init_198 rfl rfl ?_
      refine wq_iload_n (pc := 199) dX15_init_199 rfl rfl ?_
      refine wq_iload (pc := 200) dX15_init_200 rfl ?_
      obtain ⟨fs11, w12, V⟩ := V
      refine clq1354 (pc := 202) (As := [.int x3, .int x4]) (st := []) rfl dX15_init_202 rfl (Nat.le_of_ble_eq_true rfl) w12 V (fun C9 S10 => wx_kv (fun h8 V => ?_))
      refine wq_iinc (L' := [some (.ref x0), none, none, some (.int x3), some (.int (x4 + (1 : Int32)))]) (pc := 205) dX15_init_205 rfl (by rw [gsti1]) (Nat.le_of_ble_eq_true rfl) rfl ?_
      refine wq_goto (pc := 208) (tgt := 175) dX15_init_208 rfl ?_
      exact wq_T.less V ⟨rfl, ⟨rfl, ⟨rfl, trivial⟩⟩⟩
theorem vX15_findsCorners_0 {G : wq_G} {l : Launch} {d C S : Nat} {K : wq_H → Prop} {x0 : Nat} {x1 : Int32} {x2 : Int32} {h : wq_H} (V : wq_gR h x0 [(13, 2)] (fun a1 => wq_ai G h a1 x1 (fun y2 => wq_gR h x0 [(13, 2)] (fun a3 => wq_ai G h a3 x2 (fun y4 => wq_T G l d mX15_findsCorners (wq_qv K) 19 [some (.ref x0), some (.int x1), some (.int x2), some (.int (y2 &&& y4)), some (.int (x2 + (1 : Int32))), none] [] h C S))))) : wq_T G l d mX15_findsCorners (wq_qv K) 0 [some (.ref x0), some (.int x1), some (.int x2), none, none, none] [] h C S := by
  refine wq_aload_n (pc := 0) dX15_findsCorners_0 rfl rfl ?_
  refine gfq1381 (pc := 1) rfl dX15_findsCorners_1 V (fun a1 V => ?_)
  refine wq_iload_n (pc := 4) dX15_findsCorners_4 rfl rfl ?_
  refine wx_ai (pc := 5) dX15_findsCorners_5 V (fun y2 V => ?_)
  refine wq_aload_n (pc := 6) dX15_findsCorners_6 rfl rfl ?_
  refine gfq1381 (pc := 7) rfl dX15_findsCorners_7 V (fun a3 V => ?_)
  refine wq_iload_n (pc := 10) dX15_findsCorners_10 rfl rfl ?_
  refine wx_ai (pc := 11) dX15_findsCorners_11 V (fun y4 V => ?_)
  refine wq_iand (pc := 12) dX15_findsCorners_12 ?_
  refine wq_istore_n (L' := [some (.ref x0), some (.int x1), some (.int x2), some (.int (y2 &&& y4)), none, none]) (pc := 13) dX15_findsCorners_13 rfl (Nat.le_of_ble_eq_true rfl) rfl ?_
  refine wq_iload_n (pc := 14) dX15_findsCorners_14 rfl rfl ?_
  refine wq_iconst (pc := 15) dX15_findsCorners_15 gsti1 ?_
  refine wq_iadd (pc := 16) dX15_findsCorners_16 ?_
  refine wq_istore (L' := [some (.ref x0), some (.int x1), some (.int x2), some (.int (y2 &&& y4)), some (.int (x2 + (1 : Int32))), none]) (pc := 17) dX15_findsCorners_17 (Nat.le_of_ble_eq_true rfl) rfl ?_
  exact wq_T.less V ⟨rfl, ⟨rfl, ⟨rfl, ⟨rfl, ⟨rfl, trivial⟩⟩⟩⟩⟩
theorem vX15_findsCorners_19 {G : wq_G} {l : Launch} {d C S : Nat} {K : wq_H → Prop} {x0 : Nat} {x1 : Int32} {x2 : Int32} {x3 : Int32} {x4 : Int32} {h : wq_H} (V : wq_gI h x0 [(13, 0)] (fun y1 => (y1 ≤ x4 → K h) ∧ (¬ y1 ≤ x4 → wq_ci G l d C S mX1_has [.int x3, .int x4] h (fun y5 h2 C3 S4 => (¬ y5 = 0 → wq_T G l d mX15_findsCorners (wq_qv K) 46 [some (.ref x0), some (.int x1), some (.int x2), some (.int x3), some (.int x4), some (.int (x4 + (1 : Int32)))] [] h2 C3 S4) ∧ (y5 = 0 → wq_T G l d mX15_findsCorners (wq_qv K) 19 [some (.ref x0), some (.int x1), some (.int x2), some (.int x3), some (.int (x4 + (1 : Int32))), none] [] h2 C3 S4))))) : wq_T G l d mX15_findsCorners (wq_qv K) 19 [some (.ref x0), some (.int x1), some (.int x2), some (.int x3), some (.int x4), none] [] h C S := by
  refine wq_iload (pc := 19) dX15_findsCorners_19 rfl ?_
  refine wq_aload_n (pc := 21) dX15_findsCorners_21 rfl rfl ?_
  refine gfq1379 (pc := 22) rfl dX15_findsCorners_22 V (fun y1 V => ?_)
  refine wq_icmp_ge (pc := 25) (tgt := 112) dX15_findsCorners_25 rfl (fun c => ?_) (fun c => ?_)
  · have V := V.1 c
    refine wq_vret (pc := 112) dX15_findsCorners_112 rfl ⟨rfl, V⟩
  · have V := V.2 c
    refine wq_iload_n (pc := 28) dX15_findsCorners_28 rfl rfl ?_
    refine wq_iload (pc := 29) dX15_findsCorners_29 rfl ?_
    refine clq1350 (pc := 31) (As := [.int x3, .int x4]) (st := []) rfl dX15_findsCorners_31 rfl (Nat.le_of_ble_eq_true rfl) V (fun C3 S4 => wx_ki (fun y5 h2 V => ?_))
    refine wq_if_ne (pc := 34) (tgt := 40) dX15_findsCorners_34 rfl (fun c => ?_) (fun c => ?_)
    · have V := V.1 c
      refine wq_iload (pc := 40) dX15_findsCorners_40 rfl ?_
      refine wq_iconst (pc := 42) dX15_findsCorners_42 gsti1 ?_
      refine wq_iadd (pc := 43) dX15_findsCorners_43 ?_
      refine wq_istore (L' := [some (.ref x0), some (.int x1), some (.int x2), some (.int x3), some (.int x4), some (.int (x4 + (1 : Int32)))]) (pc := 44) dX15_findsCorners_44 (Nat.le_of_ble_eq_true rfl) rfl ?_
      exact wq_T.less V ⟨rfl, ⟨rfl, ⟨rfl, ⟨rfl, ⟨rfl, ⟨rfl, trivial⟩⟩⟩⟩⟩⟩
    · have V := V.2 c
      refine wq_goto (pc := 37) (tgt := 106) dX15_findsCorners_37 rfl ?_
      refine wq_iinc (L' := [some (.ref x0), some (.int x1), some (.int x2), some (.int x3), some (.int (x4 + (1 : Int32))), none]) (pc := 106) dX15_findsCorners_106 rfl (by rw [gsti1]) (Nat.le_of_ble_eq_true rfl) rfl ?_
      refine wq_goto (pc := 109) (tgt := 19) dX15_findsCorners_109 rfl ?_
      exact wq_T.less V ⟨rfl, ⟨rfl, ⟨rfl, ⟨rfl, ⟨rfl, trivial⟩⟩⟩⟩⟩
theorem vX15_findsCorners_46 {G : wq_G} {l : Launch} {d C S : Nat} {K : wq_H → Prop} {x0 : Nat} {x1 : Int32} {x2 : Int32} {x3 : Int32} {x4 : Int32} {x5 : Int32} {h : wq_H} (V : wq_gI h x0 [(13, 0)] (fun y1 => (y1 ≤ x5 → wq_T G l d mX15_findsCorners (wq_qv K) 19 [some (.ref x0), some (.int x1), some (.int x2), some (.int x3), some (.int (x4 + (1 : Int32))), none] [] h C S) ∧ (¬ y1 ≤ x5 → wq_gR h x0 [(13, 2)] (fun a2 => wq_ai G h a2 x4 (fun y3 => wq_ci G l d C S mX1_has [.int (x3 &&& y3), .int x5] h (fun y7 h4 C5 S6 => (y7 = 0 → wq_T G l d mX15_findsCorners (wq_qv K) 46 [some (.ref x0), some (.int x1), some (.int x2), some (.int x3), some (.int x4), some (.int (x5 + (1 : Int32)))] [] h4 C5 S6) ∧ (¬ y7 = 0 → wq_gR h4 x0 [(13, 3)] (fun a8 => wq_cq G l d C5 S6 mJ14_valueOf [.int (((((1 : Int32) <<< (x1 &&& 31)) ||| ((1 : Int32) <<< (x2 &&& 31))) ||| ((1 : Int32) <<< (x4 &&& 31))) ||| ((1 : Int32) <<< (x5 &&& 31)))] h4 (fun r12 h9 C10 S11 => ∃ fs17 : List Value, h9 a8 = some (.inr (16, fs17)) ∧ (wq_ci G l d C10 S11 mJ2_add [.ref a8, va_rf r12] h9 (fun y16 h13 C14 S15 => wq_T G l d mX15_findsCorners (wq_qv K) 46 [some (.ref x0), some (.int x1), some (.int x2), some (.int x3), some (.int x4), some (.int (x5 + (1 : Int32)))] [] h13 C14 S15))))))))))) : wq_T G l d mX15_findsCorners (wq_qv K) 46 [some (.ref x0), some (.int x1), some (.int x2), some (.int x3), some (.int x4), some (.int x5)] [] h C S := by
  refine wq_iload (pc := 46) dX15_findsCorners_46 rfl ?_
  refine wq_aload_n (pc := 48) dX15_findsCorners_48 rfl rfl ?_
  refine gfq1379 (pc := 49) rfl dX15_findsCorners_49 V (fun y1 V => ?_)
  refine wq_icmp_ge (pc := 52) (tgt := 106) dX15_findsCorners_52 rfl (fun c => ?_) (fun c => ?_)
  · have V := V.1 c
    refine wq_iinc (L' := [some (.ref x0), some (.int x1), some (.int x2), some (.int x3), some (.int (x4 + (1 : Int32))), some (.int x5)]) (pc := 106) dX15_findsCorners_106 rfl (by rw [gsti1]) (Nat.le_of_ble_eq_true rfl) rfl ?_
    refine wq_goto (pc := 109) (tgt := 19) dX15_findsCorners_109 rfl ?_
    exact wq_T.less V ⟨rfl, ⟨rfl, ⟨rfl, ⟨rfl, ⟨rfl, trivial⟩⟩⟩⟩⟩
  · have V := V.2 c
    refine wq_iload_n (pc := 55) dX15_findsCorners_55 rfl rfl ?_
    refine wq_aload_n (pc := 56) dX15_findsCorners_56 rfl rfl ?_
    refine gfq1381 (pc := 57) rfl dX15_findsCorners_57 V (fun a2 V => ?_)
    refine wq_iload (pc := 60) dX15_findsCorners_60 rfl ?_
    refine wx_ai (pc := 62) dX15_findsCorners_62 V (fun y3 V => ?_)
    refine wq_iand (pc := 63) dX15_findsCorners_63 ?_
    refine wq_iload (pc := 64) dX15_findsCorners_64 rfl ?_
    refine clq1350 (pc := 66) (As := [.int (x3 &&& y3), .int x5]) (st := []) rfl dX15_findsCorners_66 rfl (Nat.le_of_ble_eq_true rfl) V (fun C5 S6 => wx_ki (fun y7 h4 V => ?_))
    refine wq_if_eq (pc := 69) (tgt := 100) dX15_findsCorners_69 rfl (fun c => ?_) (fun c => ?_)
    · have V := V.1 c
      refine wq_iinc (L' := [some (.ref x0), some (.int x1), some (.int x2), some (.int x3), some (.int x4), some (.int (x5 + (1 : Int32)))]) (pc := 100) dX15_findsCorners_100 rfl (by rw [gsti1]) (Nat.le_of_ble_eq_true rfl) rfl ?_
      refine wq_goto (pc := 103) (tgt := 46) dX15_findsCorners_103 rfl ?_
      exact wq_T.less V ⟨rfl, ⟨rfl, ⟨rfl, ⟨rfl, ⟨rfl, ⟨rfl, trivial⟩⟩⟩⟩⟩⟩
    · have V := V.2 c
      refine wq_aload_n (pc := 72) dX15_findsCorners_72 rfl rfl ?_
      refine gfq1382 (pc := 73) rfl dX15_findsCorners_73 V (fun a8 V => ?_)
      refine wq_iconst (pc := 76) dX15_findsCorners_76 gsti1 ?_
      refine wq_iload_n (pc := 77) dX15_findsCorners_77 rfl rfl ?_
      refine wq_ishl (pc := 78) dX15_findsCorners_78 ?_
      refine wq_iconst (pc := 79) dX15_findsCorners_79 gsti1 ?_
      refine wq_iload_n (pc := 80) dX15_findsCorners_80 rfl rfl ?_
      refine wq_ishl (pc := 81) dX15_findsCorners_81 ?_
      refine wq_ior (pc := 82) dX15_findsCorners_82 ?_
      refine wq_iconst (pc := 83) dX15_findsCorners_83 gsti1 ?_
      refine wq_iload (pc := 84) dX15_findsCorners_84 rfl ?_
      refine wq_ishl (pc := 86) dX15_findsCorners_86 ?_
      refine wq_ior (pc := 87) dX15_findsCorners_87 ?_
      refine wq_iconst (pc := 88) dX15_findsCorners_88 gsti1 ?_
      refine wq_iload (pc := 89) dX15_findsCorners_89 rfl ?_
      refine wq_ishl (pc := 91) dX15_findsCorners_91 ?_
      refine wq_ior (pc := 92) dX15_findsCorners_92 ?_
      refine clq1358 (pc := 93) (As := [.int (((((1 : Int32) <<< (x1 &&& 31)) ||| ((1 : Int32) <<< (x2 &&& 31))) ||| ((1 : Int32) <<< (x4 &&& 31))) ||| ((1 : Int32) <<< (x5 &&& 31)))]) (st := [.ref a8]) rfl dX15_findsCorners_93 rfl (Nat.le_of_ble_eq_true rfl) V (fun C10 S11 => wx_kq (fun r12 h9 V => ?_))
      obtain ⟨fs17, w18, V⟩ := V
      refine clq1378 (pc := 96) (As := [va_rf r12]) (st := []) rfl dX15_findsCorners_96 rfl (Nat.le_of_ble_eq_true rfl) w18 V (fun C14 S15 => wx_ki (fun y16 h13 V => ?_))
      refine wq_pop (pc := 99) dX15_findsCorners_99 rfl ?_
      refine wq_iinc (L' := [some (.ref x0), some (.int x1), some (.int x2), some (.int x3), some (.int x4), some (.int (x5 + (1 : Int32)))]) (pc := 100) dX15_findsCorners_100 rfl (by rw [gsti1]) (Nat.le_of_ble_eq_true rfl) rfl ?_
      refine wq_goto (pc := 103) (tgt := 46) dX15_findsCorners_103 rfl ?_
      exact wq_T.less V ⟨rfl, ⟨rfl, ⟨rfl, ⟨rfl, ⟨rfl, ⟨rfl, trivial⟩⟩⟩⟩⟩⟩
theorem vX15_corners_0 {G : wq_G} {l : Launch} {d C S : Nat} {K : Int32 → wq_H → Prop} {x0 : Nat} {h : wq_H} (V : wq_gR h x0 [(13, 3)] (fun a1 => ∃ fs6 : List Value, h a1 = some (.inr (16, fs6)) ∧ (wq_ci G l d C S mJ2_size [.ref a1] h (fun y5 h2 C3 S4 => K y5 h2)))) : wq_T G l d mX15_corners (wq_qi K) 0 [some (.ref x0)] [] h C S := by
  refine wq_aload_n (pc := 0) dX15_corners_0 rfl rfl ?_
  refine gfq1382 (pc := 1) rfl dX15_corners_1 V (fun a1 V => ?_)
  obtain ⟨fs6, w7, V⟩ := V
  refine clq1349 (pc := 4) (As := []) (st := []) rfl dX15_corners_4 rfl (Nat.le_of_ble_eq_true rfl) w7 V (fun C3 S4 => wx_ki (fun y5 h2 V => ?_))
  refine wq_iret (pc := 7) dX15_corners_7 rfl ⟨_, rfl, V⟩
theorem vX15_counts_0 {G : wq_G} {l : Launch} {d C S : Nat} {K : wq_H → Prop} {x0 : Nat} {x1 : Int32} {x2 : Int32} {x3 : Int32} {h : wq_H} (V : (¬ x3 = 0 → wq_gI h x0 [(13, 1)] (fun y1 => ∃ fs6 : List Value, h x0 = some (.inr (13, fs6)) ∧ (wq_ci G l d C S mX15_isGood [.ref x0, .int x2, .int ((((1 : Int32) <<< (x1 &&& 31)) - (1 : Int32)) ||| (y1 ^^^ (-1 : Int32)))] h (fun y5 h2 C3 S4 => (¬ y5 = 0 → wq_gI h2 x0 [(13, 0)] (fun y8 => (¬ x1 = y8 → ∃ fs12 : List Value, h2 x0 = some (.inr (13, fs12)) ∧ (wq_cw G l d C3 S4 mX15_counts [.ref x0, .int (x1 + (1 : Int32)), .int x2, .int x3] h2 (fun h9 C10 S11 => wq_gI h9 x0 [(13, 1)] (fun y14 => wq_ci G l d C10 S11 mX1_has [.int y14, .int x1] h9 (fun y18 h15 C16 S17 => (y18 = 0 → K h15) ∧ (¬ y18 = 0 → wq_gR h15 x0 [(13, 2)] (fun a19 => wq_ai G h15 a19 x1 (fun y20 => (¬ (y20 &&& x2) = 0 → K h15) ∧ ((y20 &&& x2) = 0 → ∃ fs24 : List Value, h15 x0 = some (.inr (13, fs24)) ∧ (wq_cw G l d C16 S17 mX15_counts [.ref x0, .int (x1 + (1 : Int32)), .int (x2 ||| ((1 : Int32) <<< (x1 &&& 31))), .int x3] h15 (fun h21 C22 S23 => K h21))))))))))) ∧ (x1 = y8 → wq_gI h2 x0 [(13, 4)] (fun y26 => wq_pf G h2 x0 [(13, 4)] (.int (y26 + (1 : Int32))) (fun h27 => wq_gI h27 x0 [(13, 5)] (fun y28 => wq_ci G l d C3 S4 mX1_bits [.int x2] h27 (fun y32 h29 C30 S31 => wq_ci G l d C30 S31 mJ8_max [.int y28, .int y32] h29 (fun y36 h33 C34 S35 => wq_pf G h33 x0 [(13, 5)] (.int y36) (fun h37 => K h37))))))))) ∧ (y5 = 0 → K h2))))) ∧ (x3 = 0 → wq_gI h x0 [(13, 4)] (fun y38 => (0 < y38 → K h) ∧ (¬ 0 < y38 → wq_gI h x0 [(13, 1)] (fun y39 => ∃ fs44 : List Value, h x0 = some (.inr (13, fs44)) ∧ (wq_ci G l d C S mX15_isGood [.ref x0, .int x2, .int ((((1 : Int32) <<< (x1 &&& 31)) - (1 : Int32)) ||| (y39 ^^^ (-1 : Int32)))] h (fun y43 h40 C41 S42 => (¬ y43 = 0 → wq_gI h40 x0 [(13, 0)] (fun y46 => (¬ x1 = y46 → ∃ fs50 : List Value, h40 x0 = some (.inr (13, fs50)) ∧ (wq_cw G l d C41 S42 mX15_counts [.ref x0, .int (x1 + (1 : Int32)), .int x2, .int x3] h40 (fun h47 C48 S49 => wq_gI h47 x0 [(13, 1)] (fun y52 => wq_ci G l d C48 S49 mX1_has [.int y52, .int x1] h47 (fun y56 h53 C54 S55 => (y56 = 0 → K h53) ∧ (¬ y56 = 0 → wq_gR h53 x0 [(13, 2)] (fun a57 => wq_ai G h53 a57 x1 (fun y58 => (¬ (y58 &&& x2) = 0 → K h53) ∧ ((y58 &&& x2) = 0 → ∃ fs62 : List Value, h53 x0 = some (.inr (13, fs62)) ∧ (wq_cw G l d C54 S55 mX15_counts [.ref x0, .int (x1 + (1 : Int32)), .int (x2 ||| ((1 : Int32) <<< (x1 &&& 31))), .int x3] h53 (fun h59 C60 S61 => K h59))))))))))) ∧ (x1 = y46 → wq_gI h40 x0 [(13, 4)] (fun y64 => wq_pf G h40 x0 [(13, 4)] (.int (y64 + (1 : Int32))) (fun h65 => wq_gI h65 x0 [(13, 5)] (fun y66 => wq_ci G l d C41 S42 mX1_bits [.int x2] h65 (fun y70 h67 C68 S69 => wq_ci G l d C68 S69 mJ8_max [.int y66, .int y70] h67 (fun y74 h71 C72 S73 => wq_pf G h71 x0 [(13, 5)] (.int y74) (fun h75 => K h75))))))))) ∧ (y43 = 0 → K h40)))))))) : wq_T G l d mX15_counts (wq_qv K) 0 [some (.ref x0), some (.int x1), some (.int x2), some (.int x3)] [] h C S := by
  refine wq_iload_n (pc := 0) dX15_counts_0 rfl rfl ?_
  refine wq_if_ne (pc := 1) (tgt := 11) dX15_counts_1 rfl (fun c => ?_) (fun c => ?_)
  · have V := V.1 c
    refine wq_aload_n (pc := 11) dX15_counts_11 rfl rfl ?_
    refine wq_iload_n (pc := 12) dX15_counts_12 rfl rfl ?_
    refine wq_iconst (pc := 13) dX15_counts_13 gsti1 ?_
    refine wq_iload_n (pc := 14) dX15_counts_14 rfl rfl ?_
    refine wq_ishl (pc := 15) dX15_counts_15 ?_
    refine wq_iconst (pc := 16) dX15_counts_16 gsti1 ?_
    refine wq_isub (pc := 17) dX15_counts_17 ?_
    refine wq_aload_n (pc := 18) dX15_counts_18 rfl rfl ?_
    refine gfq1380 (pc := 19) rfl dX15_counts_19 V (fun y1 V => ?_)
    refine wq_iconst (pc := 22) dX15_counts_22 gstim1 ?_
    refine wq_ixor (pc := 23) dX15_counts_23 ?_
    refine wq_ior (pc := 24) dX15_counts_24 ?_
    obtain ⟨fs6, w7, V⟩ := V
    refine clq1416 (pc := 25) (As := [.int x2, .int ((((1 : Int32) <<< (x1 &&& 31)) - (1 : Int32)) ||| (y1 ^^^ (-1 : Int32)))]) (st := []) rfl dX15_counts_25 rfl (Nat.le_of_ble_eq_true rfl) w7 V (fun C3 S4 => wx_ki (fun y5 h2 V => ?_))
    refine wq_if_ne (pc := 28) (tgt := 32) dX15_counts_28 rfl (fun c => ?_) (fun c => ?_)
    · have V := V.1 c
      refine wq_iload_n (pc := 32) dX15_counts_32 rfl rfl ?_
      refine wq_aload_n (pc := 33) dX15_counts_33 rfl rfl ?_
      refine gfq1379 (pc := 34) rfl dX15_counts_34 V (fun y8 V => ?_)
      refine wq_icmp_ne (pc := 37) (tgt := 66) dX15_counts_37 rfl (fun c => ?_) (fun c => ?_)
      · have V := V.1 c
        refine wq_aload_n (pc := 66) dX15_counts_66 rfl rfl ?_
        refine wq_iload_n (pc := 67) dX15_counts_67 rfl rfl ?_
        refine wq_iconst (pc := 68) dX15_counts_68 gsti1 ?_
        refine wq_iadd (pc := 69) dX15_counts_69 ?_
        refine wq_iload_n (pc := 70) dX15_counts_70 rfl rfl ?_
        refine wq_iload_n (pc := 71) dX15_counts_71 rfl rfl ?_
        obtain ⟨fs12, w13, V⟩ := V
        refine clq1427 (pc := 72) (As := [.int (x1 + (1 : Int32)), .int x2, .int x3]) (st := []) rfl dX15_counts_72 rfl (Nat.le_of_ble_eq_true rfl) w13 V (fun C10 S11 => wx_kv (fun h9 V => ?_))
        refine wq_aload_n (pc := 75) dX15_counts_75 rfl rfl ?_
        refine gfq1380 (pc := 76) rfl dX15_counts_76 V (fun y14 V => ?_)
        refine wq_iload_n (pc := 79) dX15_counts_79 rfl rfl ?_
        refine clq1350 (pc := 80) (As := [.int y14, .int x1]) (st := []) rfl dX15_counts_80 rfl (Nat.le_of_ble_eq_true rfl) V (fun C16 S17 => wx_ki (fun y18 h15 V => ?_))
        refine wq_if_eq (pc := 83) (tgt := 110) dX15_counts_83 rfl (fun c => ?_) (fun c => ?_)
        · have V := V.1 c
          refine wq_vret (pc := 110) dX15_counts_110 rfl ⟨rfl, V⟩
        · have V := V.2 c
          refine wq_aload_n (pc := 86) dX15_counts_86 rfl rfl ?_
          refine gfq1381 (pc := 87) rfl dX15_counts_87 V (fun a19 V => ?_)
          refine wq_iload_n (pc := 90) dX15_counts_90 rfl rfl ?_
          refine wx_ai (pc := 91) dX15_counts_91 V (fun y20 V => ?_)
          refine wq_iload_n (pc := 92) dX15_counts_92 rfl rfl ?_
          refine wq_iand (pc := 93) dX15_counts_93 ?_
          refine wq_if_ne (pc := 94) (tgt := 110) dX15_counts_94 rfl (fun c => ?_) (fun c => ?_)
          · have V := V.1 c
            refine wq_vret (pc := 110) dX15_counts_110 rfl ⟨rfl, V⟩
          · have V := V.2 c
            refine wq_aload_n (pc := 97) dX15_counts_97 rfl rfl ?_
            refine wq_iload_n (pc := 98) dX15_counts_98 rfl rfl ?_
            refine wq_iconst (pc := 99) dX15_counts_99 gsti1 ?_
            refine wq_iadd (pc := 100) dX15_counts_100 ?_
            refine wq_iload_n (pc := 101) dX15_counts_101 rfl rfl ?_
            refine wq_iconst (pc := 102) dX15_counts_102 gsti1 ?_
            refine wq_iload_n (pc := 103) dX15_counts_103 rfl rfl ?_
            refine wq_ishl (pc := 104) dX15_counts_104 ?_
            refine wq_ior (pc := 105) dX15_counts_105 ?_
            refine wq_iload_n (pc := 106) dX15_counts_106 rfl rfl ?_
            obtain ⟨fs24, w25, V⟩ := V
            refine clq1427 (pc := 107) (As := [.int (x1 + (1 : Int32)), .int (x2 ||| ((1 : Int32) <<< (x1 &&& 31))), .int x3]) (st := []) rfl dX15_counts_107 rfl (Nat.le_of_ble_eq_true rfl) w25 V (fun C22 S23 => wx_kv (fun h21 V => ?_))
            refine wq_vret (pc := 110) dX15_counts_110 rfl ⟨rfl, V⟩
      · have V := V.2 c
        refine wq_aload_n (pc := 40) dX15_counts_40 rfl rfl ?_
        refine wq_dup (pc := 41) dX15_counts_41 rfl ?_
        refine gfq1383 (pc := 42) rfl dX15_counts_42 V (fun y26 V => ?_)
        refine wq_iconst (pc := 45) dX15_counts_45 gsti1 ?_
        refine wq_iadd (pc := 46) dX15_counts_46 ?_
        refine pfq1383 (pc := 47) rfl dX15_counts_47 ⟨rfl, rfl⟩ V (fun h27 V => ?_)
        refine wq_aload_n (pc := 50) dX15_counts_50 rfl rfl ?_
        refine wq_aload_n (pc := 51) dX15_counts_51 rfl rfl ?_
        refine gfq1385 (pc := 52) rfl dX15_counts_52 V (fun y28 V => ?_)
        refine wq_iload_n (pc := 55) dX15_counts_55 rfl rfl ?_
        refine clq1425 (pc := 56) (As := [.int x2]) (st := [.int y28, .ref x0]) rfl dX15_counts_56 rfl (Nat.le_of_ble_eq_true rfl) V (fun C30 S31 => wx_ki (fun y32 h29 V => ?_))
        refine clq1426 (pc := 59) (As := [.int y28, .int y32]) (st := [.ref x0]) rfl dX15_counts_59 rfl (Nat.le_of_ble_eq_true rfl) V (fun C34 S35 => wx_ki (fun y36 h33 V => ?_))
        refine pfq1385 (pc := 62) rfl dX15_counts_62 ⟨rfl, rfl⟩ V (fun h37 V => ?_)
        refine wq_vret (pc := 65) dX15_counts_65 rfl ⟨rfl, V⟩
    · have V := V.2 c
      refine wq_vret (pc := 31) dX15_counts_31 rfl ⟨rfl, V⟩
  · have V := V.2 c
    refine wq_aload_n (pc := 4) dX15_counts_4 rfl rfl ?_
    refine gfq1383 (pc := 5) rfl dX15_counts_5 V (fun y38 V => ?_)
    refine wq_if_gt (pc := 8) (tgt := 31) dX15_counts_8 rfl (fun c => ?_) (fun c => ?_)
    · have V := V.1 c
      refine wq_vret (pc := 31) dX15_counts_31 rfl ⟨rfl, V⟩
    · have V := V.2 c
      refine wq_aload_n (pc := 11) dX15_counts_11 rfl rfl ?_
      refine wq_iload_n (pc := 12) dX15_counts_12 rfl rfl ?_
      refine wq_iconst (pc := 13) dX15_counts_13 gsti1 ?_
      refine wq_iload_n (pc := 14) dX15_counts_14 rfl rfl ?_
      refine wq_ishl (pc := 15) dX15_counts_15 ?_
      refine wq_iconst (pc := 16) dX15_counts_16 gsti1 ?_
      refine wq_isub (pc := 17) dX15_counts_17 ?_
      refine wq_aload_n (pc := 18) dX15_counts_18 rfl rfl ?_
      refine gfq1380 (pc := 19) rfl dX15_counts_19 V (fun y39 V => ?_)
      refine wq_iconst (pc := 22) dX15_counts_22 gstim1 ?_
      refine wq_ixor (pc := 23) dX15_counts_23 ?_
      refine wq_ior (pc := 24) dX15_counts_24 ?_
      obtain ⟨fs44, w45, V⟩ := V
      refine clq1416 (pc := 25) (As := [.int x2, .int ((((1 : Int32) <<< (x1 &&& 31)) - (1 : Int32)) ||| (y39 ^^^ (-1 : Int32)))]) (st := []) rfl dX15_counts_25 rfl (Nat.le_of_ble_eq_true rfl) w45 V (fun C41 S42 => wx_ki (fun y43 h40 V => ?_))
      refine wq_if_ne (pc := 28) (tgt := 32) dX15_counts_28 rfl (fun c => ?_) (fun c => ?_)
      · have V := V.1 c
        refine wq_iload_n (pc := 32) dX15_counts_32 rfl rfl ?_
        refine wq_aload_n (pc := 33) dX15_counts_33 rfl rfl ?_
        refine gfq1379 (pc := 34) rfl dX15_counts_34 V (fun y46 V => ?_)
        refine wq_icmp_ne (pc := 37) (tgt := 66) dX15_counts_37 rfl (fun c => ?_) (fun c => ?_)
        · have V := V.1 c
          refine wq_aload_n (pc := 66) dX15_counts_66 rfl rfl ?_
          refine wq_iload_n (pc := 67) dX15_counts_67 rfl rfl ?_
          refine wq_iconst (pc := 68) dX15_counts_68 gsti1 ?_
          refine wq_iadd (pc := 69) dX15_counts_69 ?_
          refine wq_iload_n (pc := 70) dX15_counts_70 rfl rfl ?_
          refine wq_iload_n (pc := 71) dX15_counts_71 rfl rfl ?_
          obtain ⟨fs50, w51, V⟩ := V
          refine clq1427 (pc := 72) (As := [.int (x1 + (1 : Int32)), .int x2, .int x3]) (st := []) rfl dX15_counts_72 rfl (Nat.le_of_ble_eq_true rfl) w51 V (fun C48 S49 => wx_kv (fun h47 V => ?_))
          refine wq_aload_n (pc := 75) dX15_counts_75 rfl rfl ?_
          refine gfq1380 (pc := 76) rfl dX15_counts_76 V (fun y52 V => ?_)
          refine wq_iload_n (pc := 79) dX15_counts_79 rfl rfl ?_
          refine clq1350 (pc := 80) (As := [.int y52, .int x1]) (st := []) rfl dX15_counts_80 rfl (Nat.le_of_ble_eq_true rfl) V (fun C54 S55 => wx_ki (fun y56 h53 V => ?_))
          refine wq_if_eq (pc := 83) (tgt := 110) dX15_counts_83 rfl (fun c => ?_) (fun c => ?_)
          · have V := V.1 c
            refine wq_vret (pc := 110) dX15_counts_110 rfl ⟨rfl, V⟩
          · have V := V.2 c
            refine wq_aload_n (pc := 86) dX15_counts_86 rfl rfl ?_
            refine gfq1381 (pc := 87) rfl dX15_counts_87 V (fun a57 V => ?_)
            refine wq_iload_n (pc := 90) dX15_counts_90 rfl rfl ?_
            refine wx_ai (pc := 91) dX15_counts_91 V (fun y58 V => ?_)
            refine wq_iload_n (pc := 92) dX15_counts_92 rfl rfl ?_
            refine wq_iand (pc := 93) dX15_counts_93 ?_
            refine wq_if_ne (pc := 94) (tgt := 110) dX15_counts_94 rfl (fun c => ?_) (fun c => ?_)
            · have V := V.1 c
              refine wq_vret (pc := 110) dX15_counts_110 rfl ⟨rfl, V⟩
            · have V := V.2 c
              refine wq_aload_n (pc := 97) dX15_counts_97 rfl rfl ?_
              refine wq_iload_n (pc := 98) dX15_counts_98 rfl rfl ?_
              refine wq_iconst (pc := 99) dX15_counts_99 gsti1 ?_
              refine wq_iadd (pc := 100) dX15_counts_100 ?_
              refine wq_iload_n (pc := 101) dX15_counts_101 rfl rfl ?_
              refine wq_iconst (pc := 102) dX15_counts_102 gsti1 ?_
              refine wq_iload_n (pc := 103) dX15_counts_103 rfl rfl ?_
              refine wq_ishl (pc := 104) dX15_counts_104 ?_
              refine wq_ior (pc := 105) dX15_counts_105 ?_
              refine wq_iload_n (pc := 106) dX15_counts_106 rfl rfl ?_
              obtain ⟨fs62, w63, V⟩ := V
              refine clq1427 (pc := 107) (As := [.int (x1 + (1 : Int32)), .int (x2 ||| ((1 : Int32) <<< (x1 &&& 31))), .int x3]) (st := []) rfl dX15_counts_107 rfl (Nat.le_of_ble_eq_true rfl) w63 V (fun C60 S61 => wx_kv (fun h59 V => ?_))
              refine wq_vret (pc := 110) dX15_counts_110 rfl ⟨rfl, V⟩
        · have V := V.2 c
          refine wq_aload_n (pc := 40) dX15_counts_40 rfl rfl ?_
          refine wq_dup (pc := 41) dX15_counts_41 rfl ?_
          refine gfq1383 (pc := 42) rfl dX15_counts_42 V (fun y64 V => ?_)
          refine wq_iconst (pc := 45) dX15_counts_45 gsti1 ?_
          refine wq_iadd (pc := 46) dX15_counts_46 ?_
          refine pfq1383 (pc := 47) rfl dX15_counts_47 ⟨rfl, rfl⟩ V (fun h65 V => ?_)
          refine wq_aload_n (pc := 50) dX15_counts_50 rfl rfl ?_
          refine wq_aload_n (pc := 51) dX15_counts_51 rfl rfl ?_
          refine gfq1385 (pc := 52) rfl dX15_counts_52 V (fun y66 V => ?_)
          refine wq_iload_n (pc := 55) dX15_counts_55 rfl rfl ?_
          refine clq1425 (pc := 56) (As := [.int x2]) (st := [.int y66, .ref x0]) rfl dX15_counts_56 rfl (Nat.le_of_ble_eq_true rfl) V (fun C68 S69 => wx_ki (fun y70 h67 V => ?_))
          refine clq1426 (pc := 59) (As := [.int y66, .int y70]) (st := [.ref x0]) rfl dX15_counts_59 rfl (Nat.le_of_ble_eq_true rfl) V (fun C72 S73 => wx_ki (fun y74 h71 V => ?_))
          refine pfq1385 (pc := 62) rfl dX15_counts_62 ⟨rfl, rfl⟩ V (fun h75 V => ?_)
          refine wq_vret (pc := 65) dX15_counts_65 rfl ⟨rfl, V⟩
      · have V := V.2 c
        refine wq_vret (pc := 31) dX15_counts_31 rfl ⟨rfl, V⟩
theorem vX15_isGood_0 {G : wq_G} {l : Launch} {d C S : Nat} {K : Int32 → wq_H → Prop} {x0 : Nat} {x1 : Int32} {x2 : Int32} {h : wq_H} (V : wq_T G l d mX15_isGood (wq_qi K) 2 [some (.ref x0), some (.int x1), some (.int x2), some (.int (0 : Int32)), none] [] h C S) : wq_T G l d mX15_isGood (wq_qi K) 0 [some (.ref x0), some (.int x1), some (.int x2), none, none] [] h C S := by
  refine wq_iconst (pc := 0) dX15_isGood_0 gsti0 ?_
  refine wq_istore_n (L' := [some (.ref x0), some (.int x1), some (.int x2), some (.int (0 : Int32)), none]) (pc := 1) dX15_isGood_1 rfl (Nat.le_of_ble_eq_true rfl) rfl ?_
  exact wq_T.less V ⟨rfl, ⟨rfl, ⟨rfl, ⟨rfl, trivial⟩⟩⟩⟩
theorem vX15_isGood_2 {G : wq_G} {l : Launch} {d C S : Nat} {K : Int32 → wq_H → Prop} {x0 : Nat} {x1 : Int32} {x2 : Int32} {x3 : Int32} {h : wq_H} (V : wq_gR h x0 [(13, 3)] (fun a1 => ∃ fs6 : List Value, h a1 = some (.inr (16, fs6)) ∧ (wq_ci G l d C S mJ2_size [.ref a1] h (fun y5 h2 C3 S4 => (y5 ≤ x3 → K (1 : Int32) h2) ∧ (¬ y5 ≤ x3 → wq_gR h2 x0 [(13, 3)] (fun a8 => ∃ fs13 : List Value, h2 a8 = some (.inr (16, fs13)) ∧ (wq_cq G l d C3 S4 mJ2_get [.ref a8, .int x3] h2 (fun r12 h9 C10 S11 => wq_ct h9 r12 [19] (fun a15 => ∃ fs20 : List Value, h9 a15 = some (.inr (19, fs20)) ∧ (wq_ci G l d C10 S11 mJ14_intValue [.ref a15] h9 (fun y19 h16 C17 S18 => (¬ (y19 &&& (x2 ^^^ (-1 : Int32))) = 0 → wq_T G l d mX15_isGood (wq_qi K) 2 [some (.ref x0), some (.int x1), some (.int x2), some (.int (x3 + (1 : Int32))), none] [] h16 C17 S18) ∧ ((y19 &&& (x2 ^^^ (-1 : Int32))) = 0 → (¬ (y19 &&& x1) = 0 → wq_T G l d mX15_isGood (wq_qi K) 2 [some (.ref x0), some (.int x1), some (.int x2), some (.int (x3 + (1 : Int32))), none] [] h16 C17 S18) ∧ ((y19 &&& x1) = 0 → K (0 : Int32) h16))))))))))))) : wq_T G l d mX15_isGood (wq_qi K) 2 [some (.ref x0), some (.int x1), some (.int x2), some (.int x3), none] [] h C S := by
  refine wq_iload_n (pc := 2) dX15_isGood_2 rfl rfl ?_
  refine wq_aload_n (pc := 3) dX15_isGood_3 rfl rfl ?_
  refine gfq1382 (pc := 4) rfl dX15_isGood_4 V (fun a1 V => ?_)
  obtain ⟨fs6, w7, V⟩ := V
  refine clq1349 (pc := 7) (As := []) (st := [.int x3]) rfl dX15_isGood_7 rfl (Nat.le_of_ble_eq_true rfl) w7 V (fun C3 S4 => wx_ki (fun y5 h2 V => ?_))
  refine wq_icmp_ge (pc := 10) (tgt := 53) dX15_isGood_10 rfl (fun c => ?_) (fun c => ?_)
  · have V := V.1 c
    refine wq_iconst (pc := 53) dX15_isGood_53 gsti1 ?_
    refine wq_zret (pc := 54) dX15_isGood_54 rfl gn_b1 ⟨_, rfl, V⟩
  · have V := V.2 c
    refine wq_aload_n (pc := 13) dX15_isGood_13 rfl rfl ?_
    refine gfq1382 (pc := 14) rfl dX15_isGood_14 V (fun a8 V => ?_)
    refine wq_iload_n (pc := 17) dX15_isGood_17 rfl rfl ?_
    obtain ⟨fs13, w14, V⟩ := V
    refine clq1351 (pc := 18) (As := [.int x3]) (st := []) rfl dX15_isGood_18 rfl (Nat.le_of_ble_eq_true rfl) w14 V (fun C10 S11 => wx_kq (fun r12 h9 V => ?_))
    refine ctq1420 (r := r12) (pc := 21) rfl dX15_isGood_21 V (fun a15 V => ?_)
    obtain ⟨fs20, w21, V⟩ := V
    refine clq1421 (pc := 24) (As := []) (st := []) rfl dX15_isGood_24 rfl (Nat.le_of_ble_eq_true rfl) w21 V (fun C17 S18 => wx_ki (fun y19 h16 V => ?_))
    refine wq_istore (L' := [some (.ref x0), some (.int x1), some (.int x2), some (.int x3), some (.int y19)]) (pc := 27) dX15_isGood_27 (Nat.le_of_ble_eq_true rfl) rfl ?_
    refine wq_iload (pc := 29) dX15_isGood_29 rfl ?_
    refine wq_iload_n (pc := 31) dX15_isGood_31 rfl rfl ?_
    refine wq_iconst (pc := 32) dX15_isGood_32 gstim1 ?_
    refine wq_ixor (pc := 33) dX15_isGood_33 ?_
    refine wq_iand (pc := 34) dX15_isGood_34 ?_
    refine wq_if_ne (pc := 35) (tgt := 47) dX15_isGood_35 rfl (fun c => ?_) (fun c => ?_)
    · have V := V.1 c
      refine wq_iinc (L' := [some (.ref x0), some (.int x1), some (.int x2), some (.int (x3 + (1 : Int32))), some (.int y19)]) (pc := 47) dX15_isGood_47 rfl (by rw [gsti1]) (Nat.le_of_ble_eq_true rfl) rfl ?_
      refine wq_goto (pc := 50) (tgt := 2) dX15_isGood_50 rfl ?_
      exact wq_T.less V ⟨rfl, ⟨rfl, ⟨rfl, ⟨rfl, trivial⟩⟩⟩⟩
    · have V := V.2 c
      refine wq_iload (pc := 38) dX15_isGood_38 rfl ?_
      refine wq_iload_n (pc := 40) dX15_isGood_40 rfl rfl ?_
      refine wq_iand (pc := 41) dX15_isGood_41 ?_
      refine wq_if_ne (pc := 42) (tgt := 47) dX15_isGood_42 rfl (fun c => ?_) (fun c => ?_)
      · have V := V.1 c
        refine wq_iinc (L' := [some (.ref x0), some (.int x1), some (.int x2), some (.int (x3 + (1 : Int32))), some (.int y19)]) (pc := 47) dX15_isGood_47 rfl (by rw [gsti1]) (Nat.le_of_ble_eq_true rfl) rfl ?_
        refine wq_goto (pc := 50) (tgt := 2) dX15_isGood_50 rfl ?_
        exact wq_T.less V ⟨rfl, ⟨rfl, ⟨rfl, ⟨rfl, trivial⟩⟩⟩⟩
      · have V := V.2 c
        refine wq_iconst (pc := 45) dX15_isGood_45 gsti0 ?_
        refine wq_zret (pc := 46) dX15_isGood_46 rfl gn_b0 ⟨_, rfl, V⟩
theorem vX16_init_0 {G : wq_G} {l : Launch} {d C S : Nat} {K : wq_H → Prop} (hd1 : 1 ≤ d) {x0 : Nat} {x1 : Nat} {x2 : Int32} {h : wq_H} (V : wq_na G h (.inl (G.2.2.1 0, 18, .inl (fun _ => 0))) (18 : Int32) 18 C S (fun a1 h2 => wq_pf G h2 x0 [(14, 2)] (.ref a1) (fun h3 => wq_na G h3 (.inl (G.2.2.1 0, 18, .inl (fun _ => 0))) (18 : Int32) 18 (C - 1) (S - 18) (fun a4 h5 => wq_pf G h5 x0 [(14, 3)] (.ref a4) (fun h6 => wq_pf G h6 x0 [(14, 0)] (.ref x1) (fun h7 => wq_pf G h7 x0 [(14, 1)] (.int x2) (fun h8 => wq_T G l d mX16_init (wq_qv K) 32 [some (.ref x0), none, none, some (.int (0 : Int32))] [] h8 ((C - 1) - 1) ((S - 18) - 18)))))))) : wq_T G l d mX16_init (wq_qv K) 0 [some (.ref x0), some (.ref x1), some (.int x2), none] [] h C S := by
  refine wq_aload_n (pc := 0) dX16_init_0 rfl rfl ?_
  refine wq_objInit (pc := 1) q1453 q157 q158 dX16_init_1 (Nat.le_of_ble_eq_true rfl) hd1 ?_
  refine wq_aload_n (pc := 4) dX16_init_4 rfl rfl ?_
  refine wq_bipush (pc := 5) dX16_init_5 gstb18 ?_
  refine wx_nI (pc := 7) q187 dX16_init_7 V (fun a1 h2 V => ?_)
  refine pfq1457 (pc := 9) rfl rfl dX16_init_9 (wq_nfr rfl (some a1)) V (fun h3 V => ?_)
  refine wq_aload_n (pc := 12) dX16_init_12 rfl rfl ?_
  refine wq_bipush (pc := 13) dX16_init_13 gstb18 ?_
  refine wx_nI (pc := 15) q187 dX16_init_15 V (fun a4 h5 V => ?_)
  refine pfq1459 (pc := 17) rfl rfl dX16_init_17 (wq_nfr rfl (some a4)) V (fun h6 V => ?_)
  refine wq_aload_n (pc := 20) dX16_init_20 rfl rfl ?_
  refine wq_aload_n (pc := 21) dX16_init_21 rfl rfl ?_
  refine pfq1454 (pc := 22) rfl rfl dX16_init_22 (wq_nfr rfl (some x1)) V (fun h7 V => ?_)
  refine wq_aload_n (pc := 25) dX16_init_25 rfl rfl ?_
  refine wq_iload_n (pc := 26) dX16_init_26 rfl rfl ?_
  refine pfq1455 (pc := 27) rfl rfl dX16_init_27 ⟨rfl, rfl⟩ V (fun h8 V => ?_)
  refine wq_iconst (pc := 30) dX16_init_30 gsti0 ?_
  refine wq_istore_n (L' := [some (.ref x0), some (.ref x1), some (.int x2), some (.int (0 : Int32))]) (pc := 31) dX16_init_31 rfl (Nat.le_of_ble_eq_true rfl) rfl ?_
  exact wq_T.less V ⟨rfl, ⟨rfl, trivial⟩⟩
theorem vX16_init_32 {G : wq_G} {l : Launch} {d C S : Nat} {K : wq_H → Prop} {x0 : Nat} {x3 : Int32} {h : wq_H} (V : wq_gR h x0 [(14, 2)] (fun a1 => wq_ag G h a1 (fun y2 => (y2 ≤ x3 → K h) ∧ (¬ y2 ≤ x3 → wq_gR h x0 [(14, 2)] (fun a3 => wq_si G h a3 x3 (-1 : Int32) (fun h4 => wq_gR h4 x0 [(14, 3)] (fun a5 => wq_si G h4 a5 x3 (-1 : Int32) (fun h6 => wq_T G l d mX16_init (wq_qv K) 32 [some (.ref x0), none, none, some (.int (x3 + (1 : Int32)))] [] h6 C S)))))))) : wq_T G l d mX16_init (wq_qv K) 32 [some (.ref x0), none, none, some (.int x3)] [] h C S := by
  refine wq_iload_n (pc := 32) dX16_init_32 rfl rfl ?_
  refine wq_aload_n (pc := 33) dX16_init_33 rfl rfl ?_
  refine gfq1457 (pc := 34) rfl dX16_init_34 V (fun a1 V => ?_)
  refine wx_al (pc := 37) dX16_init_37 V (fun y2 V => ?_)
  refine wq_icmp_ge (pc := 38) (tgt := 61) dX16_init_38 rfl (fun c => ?_) (fun c => ?_)
  · have V := V.1 c
    refine wq_vret (pc := 61) dX16_init_61 rfl ⟨rfl, V⟩
  · have V := V.2 c
    refine wq_aload_n (pc := 41) dX16_init_41 rfl rfl ?_
    refine gfq1457 (pc := 42) rfl dX16_init_42 V (fun a3 V => ?_)
    refine wq_iload_n (pc := 45) dX16_init_45 rfl rfl ?_
    refine wq_iconst (pc := 46) dX16_init_46 gstim1 ?_
    refine wx_si (pc := 47) dX16_init_47 V (fun h4 V => ?_)
    refine wq_aload_n (pc := 48) dX16_init_48 rfl rfl ?_
    refine gfq1459 (pc := 49) rfl dX16_init_49 V (fun a5 V => ?_)
    refine wq_iload_n (pc := 52) dX16_init_52 rfl rfl ?_
    refine wq_iconst (pc := 53) dX16_init_53 gstim1 ?_
    refine wx_si (pc := 54) dX16_init_54 V (fun h6 V => ?_)
    refine wq_iinc (L' := [some (.ref x0), none, none, some (.int (x3 + (1 : Int32)))]) (pc := 55) dX16_init_55 rfl (by rw [gsti1]) (Nat.le_of_ble_eq_true rfl) rfl ?_
    refine wq_goto (pc := 58) (tgt := 32) dX16_init_58 rfl ?_
    exact wq_T.less V ⟨rfl, ⟨rfl, trivial⟩⟩
theorem vX16_goes_0 {G : wq_G} {l : Launch} {d C S : Nat} {K : Int32 → wq_H → Prop} {x0 : Nat} {x1 : Int32} {x2 : Int32} {x3 : Int32} {h : wq_H} (V : wq_gR h x0 [(14, 0)] (fun a1 => ∃ fs6 : List Value, h a1 = some (.inr (16, fs6)) ∧ (wq_ci G l d C S mJ2_size [.ref a1] h (fun y5 h2 C3 S4 => (¬ x1 = y5 → wq_gR h2 x0 [(14, 0)] (fun a8 => ∃ fs13 : List Value, h2 a8 = some (.inr (16, fs13)) ∧ (wq_cq G l d C3 S4 mJ2_get [.ref a8, .int x1] h2 (fun r12 h9 C10 S11 => wq_ct h9 r12 [12] (fun a15 => wq_gI h9 a15 [(12, 2)] (fun y16 => (¬ x2 = y16 → wq_gR h9 a15 [(12, 0)] (fun a17 => wq_ai G h9 a17 x2 (fun y18 => wq_gR h9 x0 [(14, 2)] (fun a19 => wq_ai G h9 a19 (((6 : Int32) * x3) + y18) (fun y20 => (y20 = (-1 : Int32) → wq_gR h9 x0 [(14, 2)] (fun a21 => wq_ai G h9 a21 (((6 : Int32) * x3) + y18) (fun y22 => (¬ y22 = (-1 : Int32) → wq_T G l d mX16_goes (wq_qi K) 105 [some (.ref x0), some (.int x1), some (.int x2), none, some (.ref a15), some (.int (((6 : Int32) * x3) + y18)), none, none] [.int (0 : Int32)] h9 C10 S11) ∧ (y22 = (-1 : Int32) → wq_T G l d mX16_goes (wq_qi K) 105 [some (.ref x0), some (.int x1), some (.int x2), none, some (.ref a15), some (.int (((6 : Int32) * x3) + y18)), none, none] [.int (1 : Int32)] h9 C10 S11)))) ∧ (¬ y20 = (-1 : Int32) → wq_gR h9 x0 [(14, 2)] (fun a23 => wq_ai G h9 a23 (((6 : Int32) * x3) + y18) (fun y24 => wq_gR h9 a15 [(12, 1)] (fun a25 => wq_ai G h9 a25 x2 (fun y26 => (y24 = y26 → wq_gR h9 x0 [(14, 2)] (fun a27 => wq_ai G h9 a27 (((6 : Int32) * x3) + y18) (fun y28 => (¬ y28 = (-1 : Int32) → wq_T G l d mX16_goes (wq_qi K) 105 [some (.ref x0), some (.int x1), some (.int x2), none, some (.ref a15), some (.int (((6 : Int32) * x3) + y18)), none, none] [.int (0 : Int32)] h9 C10 S11) ∧ (y28 = (-1 : Int32) → wq_T G l d mX16_goes (wq_qi K) 105 [some (.ref x0), some (.int x1), some (.int x2), none, some (.ref a15), some (.int (((6 : Int32) * x3) + y18)), none, none] [.int (1 : Int32)] h9 C10 S11)))) ∧ (¬ y24 = y26 → K (0 : Int32) h9))))))))))) ∧ (x2 = y16 → ∃ fs33 : List Value, h9 x0 = some (.inr (14, fs33)) ∧ (wq_ci G l d C10 S11 mX16_goes [.ref x0, .int (x1 + (1 : Int32)), .int (0 : Int32), .int (0 : Int32)] h9 (fun y32 h29 C30 S31 => narrow .boolean (.int y32) = .int y32 ∧ K y32 h29))))))))) ∧ (x1 = y5 → K (1 : Int32) h2))))) : wq_T G l d mX16_goes (wq_qi K) 0 [some (.ref x0), some (.int x1), some (.int x2), some (.int x3), none, none, none, none] [] h C S := by
  refine wq_iload_n (pc := 0) dX16_goes_0 rfl rfl ?_
  refine wq_aload_n (pc := 1) dX16_goes_1 rfl rfl ?_
  refine gfq1454 (pc := 2) rfl dX16_goes_2 V (fun a1 V => ?_)
  obtain ⟨fs6, w7, V⟩ := V
  refine clq1474 (pc := 5) (As := []) (st := [.int x1]) rfl dX16_goes_5 rfl (Nat.le_of_ble_eq_true rfl) w7 V (fun C3 S4 => wx_ki (fun y5 h2 V => ?_))
  refine wq_icmp_ne (pc := 8) (tgt := 13) dX16_goes_8 rfl (fun c => ?_) (fun c => ?_)
  · have V := V.1 c
    refine wq_aload_n (pc := 13) dX16_goes_13 rfl rfl ?_
    refine gfq1454 (pc := 14) rfl dX16_goes_14 V (fun a8 V => ?_)
    refine wq_iload_n (pc := 17) dX16_goes_17 rfl rfl ?_
    obtain ⟨fs13, w14, V⟩ := V
    refine clq1475 (pc := 18) (As := [.int x1]) (st := []) rfl dX16_goes_18 rfl (Nat.le_of_ble_eq_true rfl) w14 V (fun C10 S11 => wx_kq (fun r12 h9 V => ?_))
    refine ctq1476 (r := r12) (pc := 21) rfl dX16_goes_21 V (fun a15 V => ?_)
    refine wq_astore (L' := [some (.ref x0), some (.int x1), some (.int x2), some (.int x3), some (.ref a15), none, none, none]) (pc := 24) dX16_goes_24 (Nat.le_of_ble_eq_true rfl) rfl ?_
    refine wq_iload_n (pc := 26) dX16_goes_26 rfl rfl ?_
    refine wq_aload (pc := 27) dX16_goes_27 rfl ?_
    refine gfq931 (pc := 29) rfl dX16_goes_29 V (fun y16 V => ?_)
    refine wq_icmp_ne (pc := 32) (tgt := 45) dX16_goes_32 rfl (fun c => ?_) (fun c => ?_)
    · have V := V.1 c
      refine wq_bipush (pc := 45) dX16_goes_45 gstb6 ?_
      refine wq_iload_n (pc := 47) dX16_goes_47 rfl rfl ?_
      refine wq_imul (pc := 48) dX16_goes_48 ?_
      refine wq_aload (pc := 49) dX16_goes_49 rfl ?_
      refine gfq926 (pc := 51) rfl dX16_goes_51 V (fun a17 V => ?_)
      refine wq_iload_n (pc := 54) dX16_goes_54 rfl rfl ?_
      refine wx_ai (pc := 55) dX16_goes_55 V (fun y18 V => ?_)
      refine wq_iadd (pc := 56) dX16_goes_56 ?_
      refine wq_istore (L' := [some (.ref x0), some (.int x1), some (.int x2), some (.int x3), some (.ref a15), some (.int (((6 : Int32) * x3) + y18)), none, none]) (pc := 57) dX16_goes_57 (Nat.le_of_ble_eq_true rfl) rfl ?_
      refine wq_aload_n (pc := 59) dX16_goes_59 rfl rfl ?_
      refine gfq1457 (pc := 60) rfl dX16_goes_60 V (fun a19 V => ?_)
      refine wq_iload (pc := 63) dX16_goes_63 rfl ?_
      refine wx_ai (pc := 65) dX16_goes_65 V (fun y20 V => ?_)
      refine wq_iconst (pc := 66) dX16_goes_66 gstim1 ?_
      refine wq_icmp_eq (pc := 67) (tgt := 89) dX16_goes_67 rfl (fun c => ?_) (fun c => ?_)
      · have V := V.1 c
        refine wq_aload_n (pc := 89) dX16_goes_89 rfl rfl ?_
        refine gfq1457 (pc := 90) rfl dX16_goes_90 V (fun a21 V => ?_)
        refine wq_iload (pc := 93) dX16_goes_93 rfl ?_
        refine wx_ai (pc := 95) dX16_goes_95 V (fun y22 V => ?_)
        refine wq_iconst (pc := 96) dX16_goes_96 gstim1 ?_
        refine wq_icmp_ne (pc := 97) (tgt := 104) dX16_goes_97 rfl (fun c => ?_) (fun c => ?_)
        · have V := V.1 c
          refine wq_iconst (pc := 104) dX16_goes_104 gsti0 ?_
          exact wq_T.less V ⟨rfl, ⟨rfl, ⟨rfl, ⟨rfl, ⟨rfl, trivial⟩⟩⟩⟩⟩
        · have V := V.2 c
          refine wq_iconst (pc := 100) dX16_goes_100 gsti1 ?_
          refine wq_goto (pc := 101) (tgt := 105) dX16_goes_101 rfl ?_
          exact wq_T.less V ⟨rfl, ⟨rfl, ⟨rfl, ⟨rfl, ⟨rfl, trivial⟩⟩⟩⟩⟩
      · have V := V.2 c
        refine wq_aload_n (pc := 70) dX16_goes_70 rfl rfl ?_
        refine gfq1457 (pc := 71) rfl dX16_goes_71 V (fun a23 V => ?_)
        refine wq_iload (pc := 74) dX16_goes_74 rfl ?_
        refine wx_ai (pc := 76) dX16_goes_76 V (fun y24 V => ?_)
        refine wq_aload (pc := 77) dX16_goes_77 rfl ?_
        refine gfq929 (pc := 79) rfl dX16_goes_79 V (fun a25 V => ?_)
        refine wq_iload_n (pc := 82) dX16_goes_82 rfl rfl ?_
        refine wx_ai (pc := 83) dX16_goes_83 V (fun y26 V => ?_)
        refine wq_icmp_eq (pc := 84) (tgt := 89) dX16_goes_84 rfl (fun c => ?_) (fun c => ?_)
        · have V := V.1 c
          refine wq_aload_n (pc := 89) dX16_goes_89 rfl rfl ?_
          refine gfq1457 (pc := 90) rfl dX16_goes_90 V (fun a27 V => ?_)
          refine wq_iload (pc := 93) dX16_goes_93 rfl ?_
          refine wx_ai (pc := 95) dX16_goes_95 V (fun y28 V => ?_)
          refine wq_iconst (pc := 96) dX16_goes_96 gstim1 ?_
          refine wq_icmp_ne (pc := 97) (tgt := 104) dX16_goes_97 rfl (fun c => ?_) (fun c => ?_)
          · have V := V.1 c
            refine wq_iconst (pc := 104) dX16_goes_104 gsti0 ?_
            exact wq_T.less V ⟨rfl, ⟨rfl, ⟨rfl, ⟨rfl, ⟨rfl, trivial⟩⟩⟩⟩⟩
          · have V := V.2 c
            refine wq_iconst (pc := 100) dX16_goes_100 gsti1 ?_
            refine wq_goto (pc := 101) (tgt := 105) dX16_goes_101 rfl ?_
            exact wq_T.less V ⟨rfl, ⟨rfl, ⟨rfl, ⟨rfl, ⟨rfl, trivial⟩⟩⟩⟩⟩
        · have V := V.2 c
          refine wq_iconst (pc := 87) dX16_goes_87 gsti0 ?_
          refine wq_zret (pc := 88) dX16_goes_88 rfl gn_b0 ⟨_, rfl, V⟩
    · have V := V.2 c
      refine wq_aload_n (pc := 35) dX16_goes_35 rfl rfl ?_
      refine wq_iload_n (pc := 36) dX16_goes_36 rfl rfl ?_
      refine wq_iconst (pc := 37) dX16_goes_37 gsti1 ?_
      refine wq_iadd (pc := 38) dX16_goes_38 ?_
      refine wq_iconst (pc := 39) dX16_goes_39 gsti0 ?_
      refine wq_iconst (pc := 40) dX16_goes_40 gsti0 ?_
      obtain ⟨fs33, w34, V⟩ := V
      refine clq1477 (pc := 41) (As := [.int (x1 + (1 : Int32)), .int (0 : Int32), .int (0 : Int32)]) (st := []) rfl dX16_goes_41 rfl (Nat.le_of_ble_eq_true rfl) w34 V (fun C30 S31 => wx_ki (fun y32 h29 V => ?_))
      refine wq_zret (pc := 44) dX16_goes_44 rfl V.1 ⟨_, rfl, V.2⟩
  · have V := V.2 c
    refine wq_iconst (pc := 11) dX16_goes_11 gsti1 ?_
    refine wq_zret (pc := 12) dX16_goes_12 rfl gn_b1 ⟨_, rfl, V⟩
theorem vX16_goes_105 {G : wq_G} {l : Launch} {d C S : Nat} {K : Int32 → wq_H → Prop} {x0 : Nat} {x1 : Int32} {x2 : Int32} {x4 : Nat} {x5 : Int32} {z0 : Int32} {h : wq_H} (V : wq_gR h x0 [(14, 2)] (fun a1 => wq_gR h x4 [(12, 1)] (fun a2 => wq_ai G h a2 x2 (fun y3 => wq_si G h a1 x5 y3 (fun h4 => (z0 = 0 → wq_gR h4 x0 [(14, 3)] (fun a5 => wq_ai G h4 a5 x5 (fun y6 => ∃ fs11 : List Value, h4 x0 = some (.inr (14, fs11)) ∧ (wq_ci G l d C S mX16_goes [.ref x0, .int x1, .int (x2 + (1 : Int32)), .int y6] h4 (fun y10 h7 C8 S9 => (z0 = 0 → narrow .boolean (.int y10) = .int y10 ∧ K y10 h7) ∧ (¬ z0 = 0 → (¬ y10 = 0 → narrow .boolean (.int y10) = .int y10 ∧ K y10 h7) ∧ (y10 = 0 → wq_gR h7 x0 [(14, 2)] (fun a13 => wq_si G h7 a13 x5 (-1 : Int32) (fun h14 => narrow .boolean (.int y10) = .int y10 ∧ K y10 h14))))))))) ∧ (¬ z0 = 0 → ∃ fs19 : List Value, h4 x0 = some (.inr (14, fs19)) ∧ (wq_ci G l d C S mX16_triesAll [.ref x0, .int x1, .int x2, .int x5] h4 (fun y18 h15 C16 S17 => (z0 = 0 → narrow .boolean (.int y18) = .int y18 ∧ K y18 h15) ∧ (¬ z0 = 0 → (¬ y18 = 0 → narrow .boolean (.int y18) = .int y18 ∧ K y18 h15) ∧ (y18 = 0 → wq_gR h15 x0 [(14, 2)] (fun a21 => wq_si G h15 a21 x5 (-1 : Int32) (fun h22 => narrow .boolean (.int y18) = .int y18 ∧ K y18 h22)))))))))))) : wq_T G l d mX16_goes (wq_qi K) 105 [some (.ref x0), some (.int x1), some (.int x2), none, some (.ref x4), some (.int x5), none, none] [.int z0] h C S := by
  refine wq_istore (L' := [some (.ref x0), some (.int x1), some (.int x2), none, some (.ref x4), some (.int x5), some (.int z0), none]) (pc := 105) dX16_goes_105 (Nat.le_of_ble_eq_true rfl) rfl ?_
  refine wq_aload_n (pc := 107) dX16_goes_107 rfl rfl ?_
  refine gfq1457 (pc := 108) rfl dX16_goes_108 V (fun a1 V => ?_)
  refine wq_iload (pc := 111) dX16_goes_111 rfl ?_
  refine wq_aload (pc := 113) dX16_goes_113 rfl ?_
  refine gfq929 (pc := 115) rfl dX16_goes_115 V (fun a2 V => ?_)
  refine wq_iload_n (pc := 118) dX16_goes_118 rfl rfl ?_
  refine wx_ai (pc := 119) dX16_goes_119 V (fun y3 V => ?_)
  refine wx_si (pc := 120) dX16_goes_120 V (fun h4 V => ?_)
  refine wq_iload (pc := 121) dX16_goes_121 rfl ?_
  refine wq_if_eq (pc := 123) (tgt := 137) dX16_goes_123 rfl (fun c => ?_) (fun c => ?_)
  · have V := V.1 c
    refine wq_aload_n (pc := 137) dX16_goes_137 rfl rfl ?_
    refine wq_iload_n (pc := 138) dX16_goes_138 rfl rfl ?_
    refine wq_iload_n (pc := 139) dX16_goes_139 rfl rfl ?_
    refine wq_iconst (pc := 140) dX16_goes_140 gsti1 ?_
    refine wq_iadd (pc := 141) dX16_goes_141 ?_
    refine wq_aload_n (pc := 142) dX16_goes_142 rfl rfl ?_
    refine gfq1459 (pc := 143) rfl dX16_goes_143 V (fun a5 V => ?_)
    refine wq_iload (pc := 146) dX16_goes_146 rfl ?_
    refine wx_ai (pc := 148) dX16_goes_148 V (fun y6 V => ?_)
    obtain ⟨fs11, w12, V⟩ := V
    refine clq1477 (pc := 149) (As := [.int x1, .int (x2 + (1 : Int32)), .int y6]) (st := []) rfl dX16_goes_149 rfl (Nat.le_of_ble_eq_true rfl) w12 V (fun C8 S9 => wx_ki (fun y10 h7 V => ?_))
    refine wq_istore (L' := [some (.ref x0), some (.int x1), some (.int x2), none, some (.ref x4), some (.int x5), some (.int z0), some (.int y10)]) (pc := 152) dX16_goes_152 (Nat.le_of_ble_eq_true rfl) rfl ?_
    refine wq_iload (pc := 154) dX16_goes_154 rfl ?_
    refine wq_if_eq (pc := 156) (tgt := 172) dX16_goes_156 rfl (fun c => ?_) (fun c => ?_)
    · have V := V.1 c
      refine wq_iload (pc := 172) dX16_goes_172 rfl ?_
      refine wq_zret (pc := 174) dX16_goes_174 rfl V.1 ⟨_, rfl, V.2⟩
    · have V := V.2 c
      refine wq_iload (pc := 159) dX16_goes_159 rfl ?_
      refine wq_if_ne (pc := 161) (tgt := 172) dX16_goes_161 rfl (fun c => ?_) (fun c => ?_)
      · have V := V.1 c
        refine wq_iload (pc := 172) dX16_goes_172 rfl ?_
        refine wq_zret (pc := 174) dX16_goes_174 rfl V.1 ⟨_, rfl, V.2⟩
      · have V := V.2 c
        refine wq_aload_n (pc := 164) dX16_goes_164 rfl rfl ?_
        refine gfq1457 (pc := 165) rfl dX16_goes_165 V (fun a13 V => ?_)
        refine wq_iload (pc := 168) dX16_goes_168 rfl ?_
        refine wq_iconst (pc := 170) dX16_goes_170 gstim1 ?_
        refine wx_si (pc := 171) dX16_goes_171 V (fun h14 V => ?_)
        refine wq_iload (pc := 172) dX16_goes_172 rfl ?_
        refine wq_zret (pc := 174) dX16_goes_174 rfl V.1 ⟨_, rfl, V.2⟩
  · have V := V.2 c
    refine wq_aload_n (pc := 126) dX16_goes_126 rfl rfl ?_
    refine wq_iload_n (pc := 127) dX16_goes_127 rfl rfl ?_
    refine wq_iload_n (pc := 128) dX16_goes_128 rfl rfl ?_
    refine wq_iload (pc := 129) dX16_goes_129 rfl ?_
    obtain ⟨fs19, w20, V⟩ := V
    refine clq1478 (pc := 131) (As := [.int x1, .int x2, .int x5]) (st := []) rfl dX16_goes_131 rfl (Nat.le_of_ble_eq_true rfl) w20 V (fun C16 S17 => wx_ki (fun y18 h15 V => ?_))
    refine wq_goto (pc := 134) (tgt := 152) dX16_goes_134 rfl ?_
    refine wq_istore (L' := [some (.ref x0), some (.int x1), some (.int x2), none, some (.ref x4), some (.int x5), some (.int z0), some (.int y18)]) (pc := 152) dX16_goes_152 (Nat.le_of_ble_eq_true rfl) rfl ?_
    refine wq_iload (pc := 154) dX16_goes_154 rfl ?_
    refine wq_if_eq (pc := 156) (tgt := 172) dX16_goes_156 rfl (fun c => ?_) (fun c => ?_)
    · have V := V.1 c
      refine wq_iload (pc := 172) dX16_goes_172 rfl ?_
      refine wq_zret (pc := 174) dX16_goes_174 rfl V.1 ⟨_, rfl, V.2⟩
    · have V := V.2 c
      refine wq_iload (pc := 159) dX16_goes_159 rfl ?_
      refine wq_if_ne (pc := 161) (tgt := 172) dX16_goes_161 rfl (fun c => ?_) (fun c => ?_)
      · have V := V.1 c
        refine wq_iload (pc := 172) dX16_goes_172 rfl ?_
        refine wq_zret (pc := 174) dX16_goes_174 rfl V.1 ⟨_, rfl, V.2⟩
      · have V := V.2 c
        refine wq_aload_n (pc := 164) dX16_goes_164 rfl rfl ?_
        refine gfq1457 (pc := 165) rfl dX16_goes_165 V (fun a21 V => ?_)
        refine wq_iload (pc := 168) dX16_goes_168 rfl ?_
        refine wq_iconst (pc := 170) dX16_goes_170 gstim1 ?_
        refine wx_si (pc := 171) dX16_goes_171 V (fun h22 V => ?_)
        refine wq_iload (pc := 172) dX16_goes_172 rfl ?_
        refine wq_zret (pc := 174) dX16_goes_174 rfl V.1 ⟨_, rfl, V.2⟩
theorem vX16_triesAll_0 {G : wq_G} {l : Launch} {d C S : Nat} {K : Int32 → wq_H → Prop} {x0 : Nat} {x1 : Int32} {x2 : Int32} {x3 : Int32} {h : wq_H} (V : wq_T G l d mX16_triesAll (wq_qi K) 3 [some (.ref x0), some (.int x1), some (.int x2), some (.int x3), some (.int (0 : Int32))] [] h C S) : wq_T G l d mX16_triesAll (wq_qi K) 0 [some (.ref x0), some (.int x1), some (.int x2), some (.int x3), none] [] h C S := by
  refine wq_iconst (pc := 0) dX16_triesAll_0 gsti0 ?_
  refine wq_istore (L' := [some (.ref x0), some (.int x1), some (.int x2), some (.int x3), some (.int (0 : Int32))]) (pc := 1) dX16_triesAll_1 (Nat.le_of_ble_eq_true rfl) rfl ?_
  exact wq_T.less V ⟨rfl, ⟨rfl, ⟨rfl, ⟨rfl, ⟨rfl, trivial⟩⟩⟩⟩⟩
theorem vX16_triesAll_3 {G : wq_G} {l : Launch} {d C S : Nat} {K : Int32 → wq_H → Prop} {x0 : Nat} {x1 : Int32} {x2 : Int32} {x3 : Int32} {x4 : Int32} {h : wq_H} (V : wq_gI h x0 [(14, 1)] (fun y1 => (y1 ≤ x4 → wq_gR h x0 [(14, 3)] (fun a2 => wq_si G h a2 x3 (-1 : Int32) (fun h3 => K (0 : Int32) h3))) ∧ (¬ y1 ≤ x4 → wq_gR h x0 [(14, 3)] (fun a4 => wq_si G h a4 x3 x4 (fun h5 => ∃ fs10 : List Value, h5 x0 = some (.inr (14, fs10)) ∧ (wq_ci G l d C S mX16_goes [.ref x0, .int x1, .int (x2 + (1 : Int32)), .int x4] h5 (fun y9 h6 C7 S8 => (y9 = 0 → wq_T G l d mX16_triesAll (wq_qi K) 3 [some (.ref x0), some (.int x1), some (.int x2), some (.int x3), some (.int (x4 + (1 : Int32)))] [] h6 C7 S8) ∧ (¬ y9 = 0 → K (1 : Int32) h6)))))))) : wq_T G l d mX16_triesAll (wq_qi K) 3 [some (.ref x0), some (.int x1), some (.int x2), some (.int x3), some (.int x4)] [] h C S := by
  refine wq_iload (pc := 3) dX16_triesAll_3 rfl ?_
  refine wq_aload_n (pc := 5) dX16_triesAll_5 rfl rfl ?_
  refine gfq1455 (pc := 6) rfl dX16_triesAll_6 V (fun y1 V => ?_)
  refine wq_icmp_ge (pc := 9) (tgt := 41) dX16_triesAll_9 rfl (fun c => ?_) (fun c => ?_)
  · have V := V.1 c
    refine wq_aload_n (pc := 41) dX16_triesAll_41 rfl rfl ?_
    refine gfq1459 (pc := 42) rfl dX16_triesAll_42 V (fun a2 V => ?_)
    refine wq_iload_n (pc := 45) dX16_triesAll_45 rfl rfl ?_
    refine wq_iconst (pc := 46) dX16_triesAll_46 gstim1 ?_
    refine wx_si (pc := 47) dX16_triesAll_47 V (fun h3 V => ?_)
    refine wq_iconst (pc := 48) dX16_triesAll_48 gsti0 ?_
    refine wq_zret (pc := 49) dX16_triesAll_49 rfl gn_b0 ⟨_, rfl, V⟩
  · have V := V.2 c
    refine wq_aload_n (pc := 12) dX16_triesAll_12 rfl rfl ?_
    refine gfq1459 (pc := 13) rfl dX16_triesAll_13 V (fun a4 V => ?_)
    refine wq_iload_n (pc := 16) dX16_triesAll_16 rfl rfl ?_
    refine wq_iload (pc := 17) dX16_triesAll_17 rfl ?_
    refine wx_si (pc := 19) dX16_triesAll_19 V (fun h5 V => ?_)
    refine wq_aload_n (pc := 20) dX16_triesAll_20 rfl rfl ?_
    refine wq_iload_n (pc := 21) dX16_triesAll_21 rfl rfl ?_
    refine wq_iload_n (pc := 22) dX16_triesAll_22 rfl rfl ?_
    refine wq_iconst (pc := 23) dX16_triesAll_23 gsti1 ?_
    refine wq_iadd (pc := 24) dX16_triesAll_24 ?_
    refine wq_iload (pc := 25) dX16_triesAll_25 rfl ?_
    obtain ⟨fs10, w11, V⟩ := V
    refine clq1477 (pc := 27) (As := [.int x1, .int (x2 + (1 : Int32)), .int x4]) (st := []) rfl dX16_triesAll_27 rfl (Nat.le_of_ble_eq_true rfl) w11 V (fun C7 S8 => wx_ki (fun y9 h6 V => ?_))
    refine wq_if_eq (pc := 30) (tgt := 35) dX16_triesAll_30 rfl (fun c => ?_) (fun c => ?_)
    · have V := V.1 c
      refine wq_iinc (L' := [some (.ref x0), some (.int x1), some (.int x2), some (.int x3), some (.int (x4 + (1 : Int32)))]) (pc := 35) dX16_triesAll_35 rfl (by rw [gsti1]) (Nat.le_of_ble_eq_true rfl) rfl ?_
      refine wq_goto (pc := 38) (tgt := 3) dX16_triesAll_38 rfl ?_
      exact wq_T.less V ⟨rfl, ⟨rfl, ⟨rfl, ⟨rfl, ⟨rfl, trivial⟩⟩⟩⟩⟩
    · have V := V.2 c
      refine wq_iconst (pc := 33) dX16_triesAll_33 gsti1 ?_
      refine wq_zret (pc := 34) dX16_triesAll_34 rfl gn_b1 ⟨_, rfl, V⟩
theorem vX17_init_0 {G : wq_G} {l : Launch} {d C S : Nat} {K : wq_H → Prop} (hd1 : 1 ≤ d) {x0 : Nat} {x1 : Nat} {x2 : Int32} {x3 : Int32} {h : wq_H} (V : wq_na G h (.inl (G.2.2.1 0, 5, .inl (fun _ => 0))) (5 : Int32) 5 C S (fun a1 h2 => wq_pf G h2 x0 [(15, 0)] (.ref a1) (fun h3 => wq_pf G h3 x0 [(15, 1)] (.ref x1) (fun h4 => wq_gR h4 x0 [(15, 0)] (fun a5 => wq_si G h4 a5 (0 : Int32) x2 (fun h6 => wq_gR h6 x0 [(15, 0)] (fun a7 => wq_si G h6 a7 (1 : Int32) x3 (fun h8 => wq_gR h8 x0 [(15, 0)] (fun a9 => wq_si G h8 a9 (2 : Int32) (-2 : Int32) (fun h10 => wq_gR h10 x0 [(15, 0)] (fun a11 => wq_si G h10 a11 (3 : Int32) (-2 : Int32) (fun h12 => wq_gR h12 x0 [(15, 0)] (fun a13 => wq_si G h12 a13 (4 : Int32) (-2 : Int32) (fun h14 => K h14)))))))))))))) : wq_T G l d mX17_init (wq_qv K) 0 [some (.ref x0), some (.ref x1), some (.int x2), some (.int x3)] [] h C S := by
  refine wq_aload_n (pc := 0) dX17_init_0 rfl rfl ?_
  refine wq_objInit (pc := 1) q1508 q157 q158 dX17_init_1 (Nat.le_of_ble_eq_true rfl) hd1 ?_
  refine wq_aload_n (pc := 4) dX17_init_4 rfl rfl ?_
  refine wq_iconst (pc := 5) dX17_init_5 gsti5 ?_
  refine wx_nI (pc := 6) q187 dX17_init_6 V (fun a1 h2 V => ?_)
  refine pfq1509 (pc := 8) rfl rfl dX17_init_8 (wq_nfr rfl (some a1)) V (fun h3 V => ?_)
  refine wq_aload_n (pc := 11) dX17_init_11 rfl rfl ?_
  refine wq_aload_n (pc := 12) dX17_init_12 rfl rfl ?_
  refine pfq1511 (pc := 13) rfl rfl dX17_init_13 (wq_nfr rfl (some x1)) V (fun h4 V => ?_)
  refine wq_aload_n (pc := 16) dX17_init_16 rfl rfl ?_
  refine gfq1509 (pc := 17) rfl dX17_init_17 V (fun a5 V => ?_)
  refine wq_iconst (pc := 20) dX17_init_20 gsti0 ?_
  refine wq_iload_n (pc := 21) dX17_init_21 rfl rfl ?_
  refine wx_si (pc := 22) dX17_init_22 V (fun h6 V => ?_)
  refine wq_aload_n (pc := 23) dX17_init_23 rfl rfl ?_
  refine gfq1509 (pc := 24) rfl dX17_init_24 V (fun a7 V => ?_)
  refine wq_iconst (pc := 27) dX17_init_27 gsti1 ?_
  refine wq_iload_n (pc := 28) dX17_init_28 rfl rfl ?_
  refine wx_si (pc := 29) dX17_init_29 V (fun h8 V => ?_)
  refine wq_aload_n (pc := 30) dX17_init_30 rfl rfl ?_
  refine gfq1509 (pc := 31) rfl dX17_init_31 V (fun a9 V => ?_)
  refine wq_iconst (pc := 34) dX17_init_34 gsti2 ?_
  refine wq_bipush (pc := 35) dX17_init_35 gstbm2 ?_
  refine wx_si (pc := 37) dX17_init_37 V (fun h10 V => ?_)
  refine wq_aload_n (pc := 38) dX17_init_38 rfl rfl ?_
  refine gfq1509 (pc := 39) rfl dX17_init_39 V (fun a11 V => ?_)
  refine wq_iconst (pc := 42) dX17_init_42 gsti3 ?_
  refine wq_bipush (pc := 43) dX17_init_43 gstbm2 ?_
  refine wx_si (pc := 45) dX17_init_45 V (fun h12 V => ?_)
  refine wq_aload_n (pc := 46) dX17_init_46 rfl rfl ?_
  refine gfq1509 (pc := 47) rfl dX17_init_47 V (fun a13 V => ?_)
  refine wq_iconst (pc := 50) dX17_init_50 gsti4 ?_
  refine wq_bipush (pc := 51) dX17_init_51 gstbm2 ?_
  refine wx_si (pc := 53) dX17_init_53 V (fun h14 V => ?_)
  refine wq_vret (pc := 54) dX17_init_54 rfl ⟨rfl, V⟩
theorem vX17_init_2_0 {G : wq_G} {l : Launch} {d C S : Nat} {K : wq_H → Prop} (hd1 : 1 ≤ d) {x0 : Nat} {x1 : Nat} {x2 : Nat} {h : wq_H} (V : wq_na G h (.inl (G.2.2.1 0, 5, .inl (fun _ => 0))) (5 : Int32) 5 C S (fun a1 h2 => wq_pf G h2 x0 [(15, 0)] (.ref a1) (fun h3 => wq_pf G h3 x0 [(15, 1)] (.ref x1) (fun h4 => wq_gR h4 x2 [(15, 0)] (fun a5 => wq_gR h4 x0 [(15, 0)] (fun a6 => wq_cpI G h4 a5 (0 : Int32) a6 (0 : Int32) (5 : Int32) (fun h7 => K h7))))))) : wq_T G l d mX17_init_2 (wq_qv K) 0 [some (.ref x0), some (.ref x1), some (.ref x2)] [] h C S := by
  refine wq_aload_n (pc := 0) dX17_init_2_0 rfl rfl ?_
  refine wq_objInit (pc := 1) q1508 q157 q158 dX17_init_2_1 (Nat.le_of_ble_eq_true rfl) hd1 ?_
  refine wq_aload_n (pc := 4) dX17_init_2_4 rfl rfl ?_
  refine wq_iconst (pc := 5) dX17_init_2_5 gsti5 ?_
  refine wx_nI (pc := 6) q187 dX17_init_2_6 V (fun a1 h2 V => ?_)
  refine pfq1509 (pc := 8) rfl rfl dX17_init_2_8 (wq_nfr rfl (some a1)) V (fun h3 V => ?_)
  refine wq_aload_n (pc := 11) dX17_init_2_11 rfl rfl ?_
  refine wq_aload_n (pc := 12) dX17_init_2_12 rfl rfl ?_
  refine pfq1511 (pc := 13) rfl rfl dX17_init_2_13 (wq_nfr rfl (some x1)) V (fun h4 V => ?_)
  refine wq_aload_n (pc := 16) dX17_init_2_16 rfl rfl ?_
  refine gfq1509 (pc := 17) rfl dX17_init_2_17 V (fun a5 V => ?_)
  refine wq_iconst (pc := 20) dX17_init_2_20 gsti0 ?_
  refine wq_aload_n (pc := 21) dX17_init_2_21 rfl rfl ?_
  refine gfq1509 (pc := 22) rfl dX17_init_2_22 V (fun a6 V => ?_)
  refine wq_iconst (pc := 25) dX17_init_2_25 gsti0 ?_
  refine wq_iconst (pc := 26) dX17_init_2_26 gsti5 ?_
  refine wx_cpI (pc := 27) (by exact q1588) dX17_init_2_27 (Nat.le_of_ble_eq_true rfl) hd1 V (fun h7 V => ?_)
  refine wq_vret (pc := 30) dX17_init_2_30 rfl ⟨rfl, V⟩
theorem vX2_init_0 {G : wq_G} {l : Launch} {d C S : Nat} {K : wq_H → Prop} (hd1 : 1 ≤ d) {x0 : Nat} {h : wq_H} (V : wq_na G h (.inl (G.2.2.1 1, 3430, .inr (.inl (fun _ => 0)))) (3430 : Int32) 3430 C S (fun a1 h2 => wq_pf G h2 x0 [(1, 0)] (.ref a1) (fun h3 => wq_na G h3 (.inl (G.2.2.1 0, 33, .inl (fun _ => 0))) (33 : Int32) 33 (C - 1) (S - 3430) (fun a4 h5 => wq_pf G h5 x0 [(1, 1)] (.ref a4) (fun h6 => K h6))))) : wq_T G l d mX2_init (wq_qv K) 0 [some (.ref x0)] [] h C S := by
  refine wq_aload_n (pc := 0) dX2_init_0 rfl rfl ?_
  refine wq_objInit (pc := 1) q164 q157 q158 dX2_init_1 (Nat.le_of_ble_eq_true rfl) hd1 ?_
  refine wq_aload_n (pc := 4) dX2_init_4 rfl rfl ?_
  refine wq_sipush (pc := 5) dX2_init_5 gsts3430 ?_
  refine wx_nJ (pc := 8) q186 dX2_init_8 V (fun a1 h2 V => ?_)
  refine pfq165 (pc := 10) rfl rfl dX2_init_10 (wq_nfr rfl (some a1)) V (fun h3 V => ?_)
  refine wq_aload_n (pc := 13) dX2_init_13 rfl rfl ?_
  refine wq_bipush (pc := 14) dX2_init_14 gstb33 ?_
  refine wx_nI (pc := 16) q187 dX2_init_16 V (fun a4 h5 V => ?_)
  refine pfq166 (pc := 18) rfl rfl dX2_init_18 (wq_nfr rfl (some a4)) V (fun h6 V => ?_)
  refine wq_vret (pc := 21) dX2_init_21 rfl ⟨rfl, V⟩
theorem vX2_lays_0 {G : wq_G} {l : Launch} {d C S : Nat} {K : wq_H → Prop} {x0 : Nat} {x1 : Nat} {x2 : Int32} {x3 : Int32} {h : wq_H} (V : wq_T G l d mX2_lays (wq_qv K) 3 [some (.ref x0), some (.ref x1), some (.int x2), some (.int x3), some (.int (0 : Int32)), none, none, none] [] h C S) : wq_T G l d mX2_lays (wq_qv K) 0 [some (.ref x0), some (.ref x1), some (.int x2), some (.int x3), none, none, none, none] [] h C S := by
  refine wq_iconst (pc := 0) dX2_lays_0 gsti0 ?_
  refine wq_istore (L' := [some (.ref x0), some (.ref x1), some (.int x2), some (.int x3), some (.int (0 : Int32)), none, none, none]) (pc := 1) dX2_lays_1 (Nat.le_of_ble_eq_true rfl) rfl ?_
  exact wq_T.less V ⟨rfl, ⟨rfl, ⟨rfl, ⟨rfl, ⟨rfl, trivial⟩⟩⟩⟩⟩
theorem vX2_lays_3 {G : wq_G} {l : Launch} {d C S : Nat} {K : wq_H → Prop} {x0 : Nat} {x1 : Nat} {x2 : Int32} {x3 : Int32} {x4 : Int32} {h : wq_H} (V : wq_gR h x0 [(1, 0)] (fun a1 => wq_ag G h a1 (fun y2 => (y2 ≤ x4 → wq_pf G h x0 [(1, 3)] (.int x2) (fun h3 => wq_pf G h3 x0 [(1, 2)] (.int (1 : Int32)) (fun h4 => wq_T G l d mX2_lays (wq_qv K) 40 [some (.ref x0), some (.ref x1), none, some (.int x3), some (.int (0 : Int32)), none, none, none] [] h4 C S))) ∧ (¬ y2 ≤ x4 → wq_gR h x0 [(1, 0)] (fun a5 => wq_sj G h a5 x4 (0 : Int64) (fun h6 => wq_T G l d mX2_lays (wq_qv K) 3 [some (.ref x0), some (.ref x1), some (.int x2), some (.int x3), some (.int (x4 + (1 : Int32))), none, none, none] [] h6 C S)))))) : wq_T G l d mX2_lays (wq_qv K) 3 [some (.ref x0), some (.ref x1), some (.int x2), some (.int x3), some (.int x4), none, none, none] [] h C S := by
  refine wq_iload (pc := 3) dX2_lays_3 rfl ?_
  refine wq_aload_n (pc := 5) dX2_lays_5 rfl rfl ?_
  refine gfq165 (pc := 6) rfl dX2_lays_6 V (fun a1 V => ?_)
  refine wx_al (pc := 9) dX2_lays_9 V (fun y2 V => ?_)
  refine wq_icmp_ge (pc := 10) (tgt := 27) dX2_lays_10 rfl (fun c => ?_) (fun c => ?_)
  · have V := V.1 c
    refine wq_aload_n (pc := 27) dX2_lays_27 rfl rfl ?_
    refine wq_iload_n (pc := 28) dX2_lays_28 rfl rfl ?_
    refine pfq168 (pc := 29) rfl dX2_lays_29 ⟨rfl, rfl⟩ V (fun h3 V => ?_)
    refine wq_aload_n (pc := 32) dX2_lays_32 rfl rfl ?_
    refine wq_iconst (pc := 33) dX2_lays_33 gsti1 ?_
    refine pfq167 (pc := 34) rfl dX2_lays_34 ⟨rfl, rfl⟩ V (fun h4 V => ?_)
    refine wq_iconst (pc := 37) dX2_lays_37 gsti0 ?_
    refine wq_istore (L' := [some (.ref x0), some (.ref x1), some (.int x2), some (.int x3), some (.int (0 : Int32)), none, none, none]) (pc := 38) dX2_lays_38 (Nat.le_of_ble_eq_true rfl) rfl ?_
    exact wq_T.less V ⟨rfl, ⟨rfl, ⟨rfl, ⟨rfl, trivial⟩⟩⟩⟩
  · have V := V.2 c
    refine wq_aload_n (pc := 13) dX2_lays_13 rfl rfl ?_
    refine gfq165 (pc := 14) rfl dX2_lays_14 V (fun a5 V => ?_)
    refine wq_iload (pc := 17) dX2_lays_17 rfl ?_
    refine wq_lconst (pc := 19) dX2_lays_19 gstl0 ?_
    refine wx_sj (pc := 20) dX2_lays_20 V (fun h6 V => ?_)
    refine wq_iinc (L' := [some (.ref x0), some (.ref x1), some (.int x2), some (.int x3), some (.int (x4 + (1 : Int32))), none, none, none]) (pc := 21) dX2_lays_21 rfl (by rw [gsti1]) (Nat.le_of_ble_eq_true rfl) rfl ?_
    refine wq_goto (pc := 24) (tgt := 3) dX2_lays_24 rfl ?_
    exact wq_T.less V ⟨rfl, ⟨rfl, ⟨rfl, ⟨rfl, ⟨rfl, trivial⟩⟩⟩⟩⟩
theorem vX2_lays_40 {G : wq_G} {l : Launch} {d C S : Nat} {K : wq_H → Prop} {x0 : Nat} {x1 : Nat} {x3 : Int32} {x4 : Int32} {h : wq_H} (V : ∃ fs5 : List Value, h x1 = some (.inr (6, fs5)) ∧ (wq_ci G l d C S mX7_size [.ref x1] h (fun y4 h1 C2 S3 => (y4 ≤ x4 → wq_gI h1 x0 [(1, 3)] (fun y7 => wq_gI h1 x0 [(1, 2)] (fun y8 => wq_pf G h1 x0 [(1, 4)] (.int (y7 + y8)) (fun h9 => wq_T G l d mX2_lays (wq_qv K) 89 [some (.ref x0), some (.ref x1), none, some (.int x3), some (.int (0 : Int32)), none, none, none] [] h9 C2 S3)))) ∧ (¬ y4 ≤ x4 → wq_gI h1 x0 [(1, 2)] (fun y10 => ∃ fs15 : List Value, h1 x1 = some (.inr (6, fs15)) ∧ (wq_cq G l d C2 S3 mX7_set [.ref x1, .int x4] h1 (fun r14 h11 C12 S13 => ∃ a17, r14 = some a17 ∧ ((∃ fs23 : List Value, h11 a17 = some (.inr (8, fs23)) ∧ wq_ci G l d C12 S13 mX10_outcomes [.ref a17] h11 (fun y22 h19 C20 S21 => wq_pf G h19 x0 [(1, 2)] (.int (y10 + y22)) (fun h25 => wq_T G l d mX2_lays (wq_qv K) 40 [some (.ref x0), some (.ref x1), none, some (.int x3), some (.int (x4 + (1 : Int32))), none, none, none] [] h25 C20 S21))) ∨ (∃ fs23 : List Value, h11 a17 = some (.inr (9, fs23)) ∧ wq_ci G l d C12 S13 mX11_outcomes [.ref a17] h11 (fun y22 h19 C20 S21 => wq_pf G h19 x0 [(1, 2)] (.int (y10 + y22)) (fun h25 => wq_T G l d mX2_lays (wq_qv K) 40 [some (.ref x0), some (.ref x1), none, some (.int x3), some (.int (x4 + (1 : Int32))), none, none, none] [] h25 C20 S21))))))))))) : wq_T G l d mX2_lays (wq_qv K) 40 [some (.ref x0), some (.ref x1), none, some (.int x3), some (.int x4), none, none, none] [] h C S := by
  refine wq_iload (pc := 40) dX2_lays_40 rfl ?_
  refine wq_aload_n (pc := 42) dX2_lays_42 rfl rfl ?_
  obtain ⟨fs5, w6, V⟩ := V
  refine clq1005 (pc := 43) (As := []) (st := [.int x4]) rfl dX2_lays_43 rfl (Nat.le_of_ble_eq_true rfl) w6 V (fun C2 S3 => wx_ki (fun y4 h1 V => ?_))
  refine wq_icmp_ge (pc := 46) (tgt := 73) dX2_lays_46 rfl (fun c => ?_) (fun c => ?_)
  · have V := V.1 c
    refine wq_aload_n (pc := 73) dX2_lays_73 rfl rfl ?_
    refine wq_aload_n (pc := 74) dX2_lays_74 rfl rfl ?_
    refine gfq168 (pc := 75) rfl dX2_lays_75 V (fun y7 V => ?_)
    refine wq_aload_n (pc := 78) dX2_lays_78 rfl rfl ?_
    refine gfq167 (pc := 79) rfl dX2_lays_79 V (fun y8 V => ?_)
    refine wq_iadd (pc := 82) dX2_lays_82 ?_
    refine pfq169 (pc := 83) rfl dX2_lays_83 ⟨rfl, rfl⟩ V (fun h9 V => ?_)
    refine wq_iconst (pc := 86) dX2_lays_86 gsti0 ?_
    refine wq_istore (L' := [some (.ref x0), some (.ref x1), none, some (.int x3), some (.int (0 : Int32)), none, none, none]) (pc := 87) dX2_lays_87 (Nat.le_of_ble_eq_true rfl) rfl ?_
    exact wq_T.less V ⟨rfl, ⟨rfl, ⟨rfl, ⟨rfl, trivial⟩⟩⟩⟩
  · have V := V.2 c
    refine wq_aload_n (pc := 49) dX2_lays_49 rfl rfl ?_
    refine wq_dup (pc := 50) dX2_lays_50 rfl ?_
    refine gfq167 (pc := 51) rfl dX2_lays_51 V (fun y10 V => ?_)
    refine wq_aload_n (pc := 54) dX2_lays_54 rfl rfl ?_
    refine wq_iload (pc := 55) dX2_lays_55 rfl ?_
    obtain ⟨fs15, w16, V⟩ := V
    refine clq1006 (pc := 57) (As := [.int x4]) (st := [.int y10, .ref x0]) rfl dX2_lays_57 rfl (Nat.le_of_ble_eq_true rfl) w16 V (fun C12 S13 => wx_kq (fun r14 h11 V => ?_))
    obtain ⟨a17, w18, V⟩ := V
    rw [w18]
    have T : ∀ C20 S21 y22 h19, (wq_pf G h19 x0 [(1, 2)] (.int (y10 + y22)) (fun h25 => wq_T G l d mX2_lays (wq_qv K) 40 [some (.ref x0), some (.ref x1), none, some (.int x3), some (.int (x4 + (1 : Int32))), none, none, none] [] h25 C20 S21)) → wq_T G l d mX2_lays (wq_qv K) 63 [some (.ref x0), some (.ref x1), none, some (.int x3), some (.int x4), none, none, none] [.int y22, .int y10, .ref x0] h19 C20 S21 := by
      intro C20 S21 y22 h19 V
      refine wq_iadd (pc := 63) dX2_lays_63 ?_
      refine pfq167 (pc := 64) rfl dX2_lays_64 ⟨rfl, rfl⟩ V (fun h25 V => ?_)
      refine wq_iinc (L' := [some (.ref x0), some (.ref x1), none, some (.int x3), some (.int (x4 + (1 : Int32))), none, none, none]) (pc := 67) dX2_lays_67 rfl (by rw [gsti1]) (Nat.le_of_ble_eq_true rfl) rfl ?_
      refine wq_goto (pc := 70) (tgt := 40) dX2_lays_70 rfl ?_
      exact wq_T.less V ⟨rfl, ⟨rfl, ⟨rfl, ⟨rfl, trivial⟩⟩⟩⟩
    rcases V with ⟨fs23, w24, V⟩ | ⟨fs23, w24, V⟩
    · exact clq1010_8 (pc := 60) (As := []) (st := [.int y10, .ref x0]) rfl dX2_lays_60 rfl (Nat.le_of_ble_eq_true rfl) w24 V (fun C20 S21 => wx_ki (fun y22 h19 V => T C20 S21 y22 h19 V))
    · exact clq1010_9 (pc := 60) (As := []) (st := [.int y10, .ref x0]) rfl dX2_lays_60 rfl (Nat.le_of_ble_eq_true rfl) w24 V (fun C20 S21 => wx_ki (fun y22 h19 V => T C20 S21 y22 h19 V))
theorem vX2_lays_89 {G : wq_G} {l : Launch} {d C S : Nat} {K : wq_H → Prop} {x0 : Nat} {x1 : Nat} {x3 : Int32} {x4 : Int32} {h : wq_H} (V : wq_gI h x0 [(1, 3)] (fun y1 => (y1 ≤ x4 → wq_gI h x0 [(1, 4)] (fun y2 => ∃ fs6 : List Value, h x0 = some (.inr (1, fs6)) ∧ (wq_cw G l d C S mX2_put [.ref x0, .int (0 : Int32), .int y2, .long x3.toInt64] h (fun h3 C4 S5 => wq_T G l d mX2_lays (wq_qv K) 129 [some (.ref x0), some (.ref x1), none, none, some (.int (1 : Int32)), some (.int (0 : Int32)), none, none] [] h3 C4 S5)))) ∧ (¬ y1 ≤ x4 → ∃ fs11 : List Value, h x0 = some (.inr (1, fs11)) ∧ (wq_cw G l d C S mX2_put [.ref x0, .int (0 : Int32), .int x4, .long (1 : Int64)] h (fun h8 C9 S10 => wq_T G l d mX2_lays (wq_qv K) 89 [some (.ref x0), some (.ref x1), none, some (.int x3), some (.int (x4 + (1 : Int32))), none, none, none] [] h8 C9 S10))))) : wq_T G l d mX2_lays (wq_qv K) 89 [some (.ref x0), some (.ref x1), none, some (.int x3), some (.int x4), none, none, none] [] h C S := by
  refine wq_iload (pc := 89) dX2_lays_89 rfl ?_
  refine wq_aload_n (pc := 91) dX2_lays_91 rfl rfl ?_
  refine gfq168 (pc := 92) rfl dX2_lays_92 V (fun y1 V => ?_)
  refine wq_icmp_ge (pc := 95) (tgt := 112) dX2_lays_95 rfl (fun c => ?_) (fun c => ?_)
  · have V := V.1 c
    refine wq_aload_n (pc := 112) dX2_lays_112 rfl rfl ?_
    refine wq_iconst (pc := 113) dX2_lays_113 gsti0 ?_
    refine wq_aload_n (pc := 114) dX2_lays_114 rfl rfl ?_
    refine gfq169 (pc := 115) rfl dX2_lays_115 V (fun y2 V => ?_)
    refine wq_iload_n (pc := 118) dX2_lays_118 rfl rfl ?_
    refine wq_i2l (pc := 119) dX2_lays_119 ?_
    obtain ⟨fs6, w7, V⟩ := V
    refine clq1011 (pc := 120) (As := [.int (0 : Int32), .int y2, .long x3.toInt64]) (st := []) rfl dX2_lays_120 rfl (Nat.le_of_ble_eq_true rfl) w7 V (fun C4 S5 => wx_kv (fun h3 V => ?_))
    refine wq_iconst (pc := 123) dX2_lays_123 gsti1 ?_
    refine wq_istore (L' := [some (.ref x0), some (.ref x1), none, some (.int x3), some (.int (1 : Int32)), none, none, none]) (pc := 124) dX2_lays_124 (Nat.le_of_ble_eq_true rfl) rfl ?_
    refine wq_iconst (pc := 126) dX2_lays_126 gsti0 ?_
    refine wq_istore (L' := [some (.ref x0), some (.ref x1), none, some (.int x3), some (.int (1 : Int32)), some (.int (0 : Int32)), none, none]) (pc := 127) dX2_lays_127 (Nat.le_of_ble_eq_true rfl) rfl ?_
    exact wq_T.less V ⟨rfl, ⟨rfl, ⟨rfl, ⟨rfl, trivial⟩⟩⟩⟩
  · have V := V.2 c
    refine wq_aload_n (pc := 98) dX2_lays_98 rfl rfl ?_
    refine wq_iconst (pc := 99) dX2_lays_99 gsti0 ?_
    refine wq_iload (pc := 100) dX2_lays_100 rfl ?_
    refine wq_lconst (pc := 102) dX2_lays_102 gstl1 ?_
    obtain ⟨fs11, w12, V⟩ := V
    refine clq1011 (pc := 103) (As := [.int (0 : Int32), .int x4, .long (1 : Int64)]) (st := []) rfl dX2_lays_103 rfl (Nat.le_of_ble_eq_true rfl) w12 V (fun C9 S10 => wx_kv (fun h8 V => ?_))
    refine wq_iinc (L' := [some (.ref x0), some (.ref x1), none, some (.int x3), some (.int (x4 + (1 : Int32))), none, none, none]) (pc := 106) dX2_lays_106 rfl (by rw [gsti1]) (Nat.le_of_ble_eq_true rfl) rfl ?_
    refine wq_goto (pc := 109) (tgt := 89) dX2_lays_109 rfl ?_
    exact wq_T.less V ⟨rfl, ⟨rfl, ⟨rfl, ⟨rfl, trivial⟩⟩⟩⟩
theorem vX2_lays_129 {G : wq_G} {l : Launch} {d C S : Nat} {K : wq_H → Prop} {x0 : Nat} {x1 : Nat} {x4 : Int32} {x5 : Int32} {h : wq_H} (V : ∃ fs5 : List Value, h x1 = some (.inr (6, fs5)) ∧ (wq_ci G l d C S mX7_size [.ref x1] h (fun y4 h1 C2 S3 => (y4 ≤ x5 → wq_T G l d mX2_lays (wq_qv K) 241 [some (.ref x0), none, none, none, none, some (.int (0 : Int32)), none, none] [] h1 C2 S3) ∧ (¬ y4 ≤ x5 → ∃ fs11 : List Value, h1 x1 = some (.inr (6, fs11)) ∧ (wq_cq G l d C2 S3 mX7_set [.ref x1, .int x5] h1 (fun r10 h7 C8 S9 => wq_T G l d mX2_lays (wq_qv K) 149 [some (.ref x0), some (.ref x1), none, none, some (.int x4), some (.int x5), some (va_rf r10), some (.int (0 : Int32))] [] h7 C8 S9)))))) : wq_T G l d mX2_lays (wq_qv K) 129 [some (.ref x0), some (.ref x1), none, none, some (.int x4), some (.int x5), none, none] [] h C S := by
  refine wq_iload (pc := 129) dX2_lays_129 rfl ?_
  refine wq_aload_n (pc := 131) dX2_lays_131 rfl rfl ?_
  obtain ⟨fs5, w6, V⟩ := V
  refine clq1005 (pc := 132) (As := []) (st := [.int x5]) rfl dX2_lays_132 rfl (Nat.le_of_ble_eq_true rfl) w6 V (fun C2 S3 => wx_ki (fun y4 h1 V => ?_))
  refine wq_icmp_ge (pc := 135) (tgt := 238) dX2_lays_135 rfl (fun c => ?_) (fun c => ?_)
  · have V := V.1 c
    refine wq_iconst (pc := 238) dX2_lays_238 gsti0 ?_
    refine wq_istore (L' := [some (.ref x0), some (.ref x1), none, none, some (.int x4), some (.int (0 : Int32)), none, none]) (pc := 239) dX2_lays_239 (Nat.le_of_ble_eq_true rfl) rfl ?_
    exact wq_T.less V ⟨rfl, ⟨rfl, trivial⟩⟩
  · have V := V.2 c
    refine wq_aload_n (pc := 138) dX2_lays_138 rfl rfl ?_
    refine wq_iload (pc := 139) dX2_lays_139 rfl ?_
    obtain ⟨fs11, w12, V⟩ := V
    refine clq1006 (pc := 141) (As := [.int x5]) (st := []) rfl dX2_lays_141 rfl (Nat.le_of_ble_eq_true rfl) w12 V (fun C8 S9 => wx_kq (fun r10 h7 V => ?_))
    refine wq_astoreQ (L' := [some (.ref x0), some (.ref x1), none, none, some (.int x4), some (.int x5), some (va_rf r10), none]) (pc := 144) dX2_lays_144 (Nat.le_of_ble_eq_true rfl) rfl ?_
    refine wq_iconst (pc := 146) dX2_lays_146 gsti0 ?_
    refine wq_istore (L' := [some (.ref x0), some (.ref x1), none, none, some (.int x4), some (.int x5), some (va_rf r10), some (.int (0 : Int32))]) (pc := 147) dX2_lays_147 (Nat.le_of_ble_eq_true rfl) (by simp [wq_s1, wq_cl, wq_cat1]) ?_
    exact wq_T.less V ⟨rfl, ⟨rfl, ⟨rfl, ⟨rfl, ⟨rfl, ⟨rfl, trivial⟩⟩⟩⟩⟩⟩
theorem vX2_lays_149 {G : wq_G} {l : Launch} {d C S : Nat} {K : wq_H → Prop} {x0 : Nat} {x1 : Nat} {x4 : Int32} {x5 : Int32} {x6 : Option Nat} {x7 : Int32} {h : wq_H} (V : wq_gI h x0 [(1, 3)] (fun y1 => (y1 ≤ x7 → wq_T G l d mX2_lays (wq_qv K) 184 [some (.ref x0), some (.ref x1), none, none, some (.int x4), some (.int x5), some (va_rf x6), some (.int (0 : Int32))] [] h C S) ∧ (¬ y1 ≤ x7 → ∃ a2, x6 = some a2 ∧ ((∃ fs8 : List Value, h a2 = some (.inr (8, fs8)) ∧ wq_ci G l d C S mX10_outcome [.ref a2, .int x7] h (fun y7 h4 C5 S6 => ∃ fs13 : List Value, h4 x0 = some (.inr (1, fs13)) ∧ (wq_cw G l d C5 S6 mX2_put [.ref x0, .int (x4 + y7), .int x7, .long (1 : Int64)] h4 (fun h10 C11 S12 => wq_T G l d mX2_lays (wq_qv K) 149 [some (.ref x0), some (.ref x1), none, none, some (.int x4), some (.int x5), some (va_rf (some a2)), some (.int (x7 + (1 : Int32)))] [] h10 C11 S12)))) ∨ (∃ fs8 : List Value, h a2 = some (.inr (9, fs8)) ∧ wq_ci G l d C S mX11_outcome [.ref a2, .int x7] h (fun y7 h4 C5 S6 => ∃ fs13 : List Value, h4 x0 = some (.inr (1, fs13)) ∧ (wq_cw G l d C5 S6 mX2_put [.ref x0, .int (x4 + y7), .int x7, .long (1 : Int64)] h4 (fun h10 C11 S12 => wq_T G l d mX2_lays (wq_qv K) 149 [some (.ref x0), some (.ref x1), none, none, some (.int x4), some (.int x5), some (va_rf (some a2)), some (.int (x7 + (1 : Int32)))] [] h10 C11 S12)))))))) : wq_T G l d mX2_lays (wq_qv K) 149 [some (.ref x0), some (.ref x1), none, none, some (.int x4), some (.int x5), some (va_rf x6), some (.int x7)] [] h C S := by
  refine wq_iload (pc := 149) dX2_lays_149 rfl ?_
  refine wq_aload_n (pc := 151) dX2_lays_151 rfl rfl ?_
  refine gfq168 (pc := 152) rfl dX2_lays_152 V (fun y1 V => ?_)
  refine wq_icmp_ge (pc := 155) (tgt := 181) dX2_lays_155 rfl (fun c => ?_) (fun c => ?_)
  · have V := V.1 c
    refine wq_iconst (pc := 181) dX2_lays_181 gsti0 ?_
    refine wq_istore (L' := [some (.ref x0), some (.ref x1), none, none, some (.int x4), some (.int x5), some (va_rf x6), some (.int (0 : Int32))]) (pc := 182) dX2_lays_182 (Nat.le_of_ble_eq_true rfl) (by simp [wq_s1, wq_cl, wq_cat1]) ?_
    exact wq_T.less V ⟨rfl, ⟨rfl, ⟨rfl, ⟨rfl, ⟨rfl, ⟨rfl, trivial⟩⟩⟩⟩⟩⟩
  · have V := V.2 c
    refine wq_aload_n (pc := 158) dX2_lays_158 rfl rfl ?_
    refine wq_iload (pc := 159) dX2_lays_159 rfl ?_
    refine wq_aloadQ (pc := 161) dX2_lays_161 rfl ?_
    refine wq_iload (pc := 163) dX2_lays_163 rfl ?_
    obtain ⟨a2, w3, V⟩ := V
    rw [w3]
    have T : ∀ C5 S6 y7 h4, (∃ fs13 : List Value, h4 x0 = some (.inr (1, fs13)) ∧ (wq_cw G l d C5 S6 mX2_put [.ref x0, .int (x4 + y7), .int x7, .long (1 : Int64)] h4 (fun h10 C11 S12 => wq_T G l d mX2_lays (wq_qv K) 149 [some (.ref x0), some (.ref x1), none, none, some (.int x4), some (.int x5), some (va_rf (some a2)), some (.int (x7 + (1 : Int32)))] [] h10 C11 S12))) → wq_T G l d mX2_lays (wq_qv K) 168 [some (.ref x0), some (.ref x1), none, none, some (.int x4), some (.int x5), some (.ref a2), some (.int x7)] [.int y7, .int x4, .ref x0] h4 C5 S6 := by
      intro C5 S6 y7 h4 V
      refine wq_iadd (pc := 168) dX2_lays_168 ?_
      refine wq_iload (pc := 169) dX2_lays_169 rfl ?_
      refine wq_lconst (pc := 171) dX2_lays_171 gstl1 ?_
      obtain ⟨fs13, w14, V⟩ := V
      refine clq1011 (pc := 172) (As := [.int (x4 + y7), .int x7, .long (1 : Int64)]) (st := []) rfl dX2_lays_172 rfl (Nat.le_of_ble_eq_true rfl) w14 V (fun C11 S12 => wx_kv (fun h10 V => ?_))
      refine wq_iinc (L' := [some (.ref x0), some (.ref x1), none, none, some (.int x4), some (.int x5), some (.ref a2), some (.int (x7 + (1 : Int32)))]) (pc := 175) dX2_lays_175 rfl (by rw [gsti1]) (Nat.le_of_ble_eq_true rfl) rfl ?_
      refine wq_goto (pc := 178) (tgt := 149) dX2_lays_178 rfl ?_
      exact wq_T.less V ⟨rfl, ⟨rfl, ⟨rfl, ⟨rfl, ⟨rfl, ⟨rfl, trivial⟩⟩⟩⟩⟩⟩
    rcases V with ⟨fs8, w9, V⟩ | ⟨fs8, w9, V⟩
    · exact clq1015_8 (pc := 165) (As := [.int x7]) (st := [.int x4, .ref x0]) rfl dX2_lays_165 rfl (Nat.le_of_ble_eq_true rfl) w9 V (fun C5 S6 => wx_ki (fun y7 h4 V => T C5 S6 y7 h4 V))
    · exact clq1015_9 (pc := 165) (As := [.int x7]) (st := [.int x4, .ref x0]) rfl dX2_lays_165 rfl (Nat.le_of_ble_eq_true rfl) w9 V (fun C5 S6 => wx_ki (fun y7 h4 V => T C5 S6 y7 h4 V))
theorem vX2_lays_184 {G : wq_G} {l : Launch} {d C S : Nat} {K : wq_H → Prop} {x0 : Nat} {x1 : Nat} {x4 : Int32} {x5 : Int32} {x6 : Option Nat} {x7 : Int32} {h : wq_H} (V : ∃ a1, x6 = some a1 ∧ ((∃ fs7 : List Value, h a1 = some (.inr (8, fs7)) ∧ wq_ci G l d C S mX10_outcomes [.ref a1] h (fun y6 h3 C4 S5 => (y6 ≤ x7 → (∃ fs13 : List Value, h3 a1 = some (.inr (8, fs13)) ∧ wq_ci G l d C4 S5 mX10_outcomes [.ref a1] h3 (fun y12 h9 C10 S11 => wq_T G l d mX2_lays (wq_qv K) 129 [some (.ref x0), some (.ref x1), none, none, some (.int (x4 + y12)), some (.int (x5 + (1 : Int32))), none, none] [] h9 C10 S11)) ∨ (∃ fs13 : List Value, h3 a1 = some (.inr (9, fs13)) ∧ wq_ci G l d C4 S5 mX11_outcomes [.ref a1] h3 (fun y12 h9 C10 S11 => wq_T G l d mX2_lays (wq_qv K) 129 [some (.ref x0), some (.ref x1), none, none, some (.int (x4 + y12)), some (.int (x5 + (1 : Int32))), none, none] [] h9 C10 S11))) ∧ (¬ y6 ≤ x7 → wq_gI h3 x0 [(1, 4)] (fun y15 => wq_gR h3 a1 [(8, 0), (9, 0)] (fun a16 => wq_ai G h3 a16 x7 (fun y17 => ∃ fs21 : List Value, h3 x0 = some (.inr (1, fs21)) ∧ (wq_cw G l d C4 S5 mX2_put [.ref x0, .int (x4 + x7), .int y15, .long y17.toInt64] h3 (fun h18 C19 S20 => wq_T G l d mX2_lays (wq_qv K) 184 [some (.ref x0), some (.ref x1), none, none, some (.int x4), some (.int x5), some (va_rf (some a1)), some (.int (x7 + (1 : Int32)))] [] h18 C19 S20)))))))) ∨ (∃ fs7 : List Value, h a1 = some (.inr (9, fs7)) ∧ wq_ci G l d C S mX11_outcomes [.ref a1] h (fun y6 h3 C4 S5 => (y6 ≤ x7 → (∃ fs13 : List Value, h3 a1 = some (.inr (8, fs13)) ∧ wq_ci G l d C4 S5 mX10_outcomes [.ref a1] h3 (fun y12 h9 C10 S11 => wq_T G l d mX2_lays (wq_qv K) 129 [some (.ref x0), some (.ref x1), none, none, some (.int (x4 + y12)), some (.int (x5 + (1 : Int32))), none, none] [] h9 C10 S11)) ∨ (∃ fs13 : List Value, h3 a1 = some (.inr (9, fs13)) ∧ wq_ci G l d C4 S5 mX11_outcomes [.ref a1] h3 (fun y12 h9 C10 S11 => wq_T G l d mX2_lays (wq_qv K) 129 [some (.ref x0), some (.ref x1), none, none, some (.int (x4 + y12)), some (.int (x5 + (1 : Int32))), none, none] [] h9 C10 S11))) ∧ (¬ y6 ≤ x7 → wq_gI h3 x0 [(1, 4)] (fun y15 => wq_gR h3 a1 [(8, 0), (9, 0)] (fun a16 => wq_ai G h3 a16 x7 (fun y17 => ∃ fs21 : List Value, h3 x0 = some (.inr (1, fs21)) ∧ (wq_cw G l d C4 S5 mX2_put [.ref x0, .int (x4 + x7), .int y15, .long y17.toInt64] h3 (fun h18 C19 S20 => wq_T G l d mX2_lays (wq_qv K) 184 [some (.ref x0), some (.ref x1), none, none, some (.int x4), some (.int x5), some (va_rf (some a1)), some (.int (x7 + (1 : Int32)))] [] h18 C19 S20)))))))))) : wq_T G l d mX2_lays (wq_qv K) 184 [some (.ref x0), some (.ref x1), none, none, some (.int x4), some (.int x5), some (va_rf x6), some (.int x7)] [] h C S := by
  refine wq_iload (pc := 184) dX2_lays_184 rfl ?_
  refine wq_aloadQ (pc := 186) dX2_lays_186 rfl ?_
  obtain ⟨a1, w2, V⟩ := V
  rw [w2]
  have T : ∀ C4 S5 y6 h3, ((y6 ≤ x7 → (∃ fs13 : List Value, h3 a1 = some (.inr (8, fs13)) ∧ wq_ci G l d C4 S5 mX10_outcomes [.ref a1] h3 (fun y12 h9 C10 S11 => wq_T G l d mX2_lays (wq_qv K) 129 [some (.ref x0), some (.ref x1), none, none, some (.int (x4 + y12)), some (.int (x5 + (1 : Int32))), none, none] [] h9 C10 S11)) ∨ (∃ fs13 : List Value, h3 a1 = some (.inr (9, fs13)) ∧ wq_ci G l d C4 S5 mX11_outcomes [.ref a1] h3 (fun y12 h9 C10 S11 => wq_T G l d mX2_lays (wq_qv K) 129 [some (.ref x0), some (.ref x1), none, none, some (.int (x4 + y12)), some (.int (x5 + (1 : Int32))), none, none] [] h9 C10 S11))) ∧ (¬ y6 ≤ x7 → wq_gI h3 x0 [(1, 4)] (fun y15 => wq_gR h3 a1 [(8, 0), (9, 0)] (fun a16 => wq_ai G h3 a16 x7 (fun y17 => ∃ fs21 : List Value, h3 x0 = some (.inr (1, fs21)) ∧ (wq_cw G l d C4 S5 mX2_put [.ref x0, .int (x4 + x7), .int y15, .long y17.toInt64] h3 (fun h18 C19 S20 => wq_T G l d mX2_lays (wq_qv K) 184 [some (.ref x0), some (.ref x1), none, none, some (.int x4), some (.int x5), some (va_rf (some a1)), some (.int (x7 + (1 : Int32)))] [] h18 C19 S20))))))) → wq_T G l d mX2_lays (wq_qv K) 191 [some (.ref x0), some (.ref x1), none, none, some (.int x4), some (.int x5), some (.ref a1), some (.int x7)] [.int y6, .int x7] h3 C4 S5 := by
    intro C4 S5 y6 h3 V
    refine wq_icmp_ge (pc := 191) (tgt := 222) dX2_lays_191 rfl (fun c => ?_) (fun c => ?_)
    · have V := V.1 c
      refine wq_iload (pc := 222) dX2_lays_222 rfl ?_
      refine wq_aload (pc := 224) dX2_lays_224 rfl ?_
      have T : ∀ C10 S11 y12 h9, (wq_T G l d mX2_lays (wq_qv K) 129 [some (.ref x0), some (.ref x1), none, none, some (.int (x4 + y12)), some (.int (x5 + (1 : Int32))), none, none] [] h9 C10 S11) → wq_T G l d mX2_lays (wq_qv K) 229 [some (.ref x0), some (.ref x1), none, none, some (.int x4), some (.int x5), some (.ref a1), some (.int x7)] [.int y12, .int x4] h9 C10 S11 := by
        intro C10 S11 y12 h9 V
        refine wq_iadd (pc := 229) dX2_lays_229 ?_
        refine wq_istore (L' := [some (.ref x0), some (.ref x1), none, none, some (.int (x4 + y12)), some (.int x5), some (.ref a1), some (.int x7)]) (pc := 230) dX2_lays_230 (Nat.le_of_ble_eq_true rfl) rfl ?_
        refine wq_iinc (L' := [some (.ref x0), some (.ref x1), none, none, some (.int (x4 + y12)), some (.int (x5 + (1 : Int32))), some (.ref a1), some (.int x7)]) (pc := 232) dX2_lays_232 rfl (by rw [gsti1]) (Nat.le_of_ble_eq_true rfl) rfl ?_
        refine wq_goto (pc := 235) (tgt := 129) dX2_lays_235 rfl ?_
        exact wq_T.less V ⟨rfl, ⟨rfl, ⟨rfl, ⟨rfl, trivial⟩⟩⟩⟩
      rcases V with ⟨fs13, w14, V⟩ | ⟨fs13, w14, V⟩
      · exact clq1010_8 (pc := 226) (As := []) (st := [.int x4]) rfl dX2_lays_226 rfl (Nat.le_of_ble_eq_true rfl) w14 V (fun C10 S11 => wx_ki (fun y12 h9 V => T C10 S11 y12 h9 V))
      · exact clq1010_9 (pc := 226) (As := []) (st := [.int x4]) rfl dX2_lays_226 rfl (Nat.le_of_ble_eq_true rfl) w14 V (fun C10 S11 => wx_ki (fun y12 h9 V => T C10 S11 y12 h9 V))
    · have V := V.2 c
      refine wq_aload_n (pc := 194) dX2_lays_194 rfl rfl ?_
      refine wq_iload (pc := 195) dX2_lays_195 rfl ?_
      refine wq_iload (pc := 197) dX2_lays_197 rfl ?_
      refine wq_iadd (pc := 199) dX2_lays_199 ?_
      refine wq_aload_n (pc := 200) dX2_lays_200 rfl rfl ?_
      refine gfq169 (pc := 201) rfl dX2_lays_201 V (fun y15 V => ?_)
      refine wq_aload (pc := 204) dX2_lays_204 rfl ?_
      refine gfq832 (pc := 206) rfl dX2_lays_206 V (fun a16 V => ?_)
      refine wq_iload (pc := 209) dX2_lays_209 rfl ?_
      refine wx_ai (pc := 211) dX2_lays_211 V (fun y17 V => ?_)
      refine wq_i2l (pc := 212) dX2_lays_212 ?_
      obtain ⟨fs21, w22, V⟩ := V
      refine clq1011 (pc := 213) (As := [.int (x4 + x7), .int y15, .long y17.toInt64]) (st := []) rfl dX2_lays_213 rfl (Nat.le_of_ble_eq_true rfl) w22 V (fun C19 S20 => wx_kv (fun h18 V => ?_))
      refine wq_iinc (L' := [some (.ref x0), some (.ref x1), none, none, some (.int x4), some (.int x5), some (.ref a1), some (.int (x7 + (1 : Int32)))]) (pc := 216) dX2_lays_216 rfl (by rw [gsti1]) (Nat.le_of_ble_eq_true rfl) rfl ?_
      refine wq_goto (pc := 219) (tgt := 184) dX2_lays_219 rfl ?_
      exact wq_T.less V ⟨rfl, ⟨rfl, ⟨rfl, ⟨rfl, ⟨rfl, ⟨rfl, trivial⟩⟩⟩⟩⟩⟩
  rcases V with ⟨fs7, w8, V⟩ | ⟨fs7, w8, V⟩
  · exact clq1010_8 (pc := 188) (As := []) (st := [.int x7]) rfl dX2_lays_188 rfl (Nat.le_of_ble_eq_true rfl) w8 V (fun C4 S5 => wx_ki (fun y6 h3 V => T C4 S5 y6 h3 V))
  · exact clq1010_9 (pc := 188) (As := []) (st := [.int x7]) rfl dX2_lays_188 rfl (Nat.le_of_ble_eq_true rfl) w8 V (fun C4 S5 => wx_ki (fun y6 h3 V => T C4 S5 y6 h3 V))
theorem vX2_lays_241 {G : wq_G} {l : Launch} {d C S : Nat} {K : wq_H → Prop} {x0 : Nat} {x5 : Int32} {h : wq_H} (V : wq_gI h x0 [(1, 2)] (fun y1 => (y1 ≤ x5 → wq_T G l d mX2_lays (wq_qv K) 287 [some (.ref x0), none, none, none, none, some (.int (0 : Int32)), none, none] [] h C S) ∧ (¬ y1 ≤ x5 → wq_gI h x0 [(1, 3)] (fun y2 => ∃ fs6 : List Value, h x0 = some (.inr (1, fs6)) ∧ (wq_cw G l d C S mX2_put [.ref x0, .int x5, .int (y2 + x5), .long (1 : Int64)] h (fun h3 C4 S5 => wq_gR h3 x0 [(1, 1)] (fun a8 => wq_gI h3 x0 [(1, 3)] (fun y9 => wq_si G h3 a8 x5 (y9 + x5) (fun h10 => wq_T G l d mX2_lays (wq_qv K) 241 [some (.ref x0), none, none, none, none, some (.int (x5 + (1 : Int32))), none, none] [] h10 C4 S5))))))))) : wq_T G l d mX2_lays (wq_qv K) 241 [some (.ref x0), none, none, none, none, some (.int x5), none, none] [] h C S := by
  refine wq_iload (pc := 241) dX2_lays_241 rfl ?_
  refine wq_aload_n (pc := 243) dX2_lays_243 rfl rfl ?_
  refine gfq167 (pc := 244) rfl dX2_lays_244 V (fun y1 V => ?_)
  refine wq_icmp_ge (pc := 247) (tgt := 284) dX2_lays_247 rfl (fun c => ?_) (fun c => ?_)
  · have V := V.1 c
    refine wq_iconst (pc := 284) dX2_lays_284 gsti0 ?_
    refine wq_istore (L' := [some (.ref x0), none, none, none, none, some (.int (0 : Int32)), none, none]) (pc := 285) dX2_lays_285 (Nat.le_of_ble_eq_true rfl) rfl ?_
    exact wq_T.less V ⟨rfl, ⟨rfl, trivial⟩⟩
  · have V := V.2 c
    refine wq_aload_n (pc := 250) dX2_lays_250 rfl rfl ?_
    refine wq_iload (pc := 251) dX2_lays_251 rfl ?_
    refine wq_aload_n (pc := 253) dX2_lays_253 rfl rfl ?_
    refine gfq168 (pc := 254) rfl dX2_lays_254 V (fun y2 V => ?_)
    refine wq_iload (pc := 257) dX2_lays_257 rfl ?_
    refine wq_iadd (pc := 259) dX2_lays_259 ?_
    refine wq_lconst (pc := 260) dX2_lays_260 gstl1 ?_
    obtain ⟨fs6, w7, V⟩ := V
    refine clq1011 (pc := 261) (As := [.int x5, .int (y2 + x5), .long (1 : Int64)]) (st := []) rfl dX2_lays_261 rfl (Nat.le_of_ble_eq_true rfl) w7 V (fun C4 S5 => wx_kv (fun h3 V => ?_))
    refine wq_aload_n (pc := 264) dX2_lays_264 rfl rfl ?_
    refine gfq166 (pc := 265) rfl dX2_lays_265 V (fun a8 V => ?_)
    refine wq_iload (pc := 268) dX2_lays_268 rfl ?_
    refine wq_aload_n (pc := 270) dX2_lays_270 rfl rfl ?_
    refine gfq168 (pc := 271) rfl dX2_lays_271 V (fun y9 V => ?_)
    refine wq_iload (pc := 274) dX2_lays_274 rfl ?_
    refine wq_iadd (pc := 276) dX2_lays_276 ?_
    refine wx_si (pc := 277) dX2_lays_277 V (fun h10 V => ?_)
    refine wq_iinc (L' := [some (.ref x0), none, none, none, none, some (.int (x5 + (1 : Int32))), none, none]) (pc := 278) dX2_lays_278 rfl (by rw [gsti1]) (Nat.le_of_ble_eq_true rfl) rfl ?_
    refine wq_goto (pc := 281) (tgt := 241) dX2_lays_281 rfl ?_
    exact wq_T.less V ⟨rfl, ⟨rfl, trivial⟩⟩
theorem vX2_lays_287 {G : wq_G} {l : Launch} {d C S : Nat} {K : wq_H → Prop} {x0 : Nat} {x5 : Int32} {h : wq_H} (V : wq_gI h x0 [(1, 3)] (fun y1 => (y1 ≤ x5 → wq_pf G h x0 [(1, 5)] (.long (1 : Int64)) (fun h2 => K h2)) ∧ (¬ y1 ≤ x5 → wq_gI h x0 [(1, 2)] (fun y3 => ∃ fs7 : List Value, h x0 = some (.inr (1, fs7)) ∧ (wq_cw G l d C S mX2_put [.ref x0, .int y3, .int x5, .long (-1 : Int64)] h (fun h4 C5 S6 => wq_T G l d mX2_lays (wq_qv K) 287 [some (.ref x0), none, none, none, none, some (.int (x5 + (1 : Int32))), none, none] [] h4 C5 S6)))))) : wq_T G l d mX2_lays (wq_qv K) 287 [some (.ref x0), none, none, none, none, some (.int x5), none, none] [] h C S := by
  refine wq_iload (pc := 287) dX2_lays_287 rfl ?_
  refine wq_aload_n (pc := 289) dX2_lays_289 rfl rfl ?_
  refine gfq168 (pc := 290) rfl dX2_lays_290 V (fun y1 V => ?_)
  refine wq_icmp_ge (pc := 293) (tgt := 315) dX2_lays_293 rfl (fun c => ?_) (fun c => ?_)
  · have V := V.1 c
    refine wq_aload_n (pc := 315) dX2_lays_315 rfl rfl ?_
    refine wq_lconst (pc := 316) dX2_lays_316 gstl1 ?_
    refine pfq170 (pc := 317) rfl dX2_lays_317 ⟨rfl, rfl⟩ V (fun h2 V => ?_)
    refine wq_vret (pc := 320) dX2_lays_320 rfl ⟨rfl, V⟩
  · have V := V.2 c
    refine wq_aload_n (pc := 296) dX2_lays_296 rfl rfl ?_
    refine wq_aload_n (pc := 297) dX2_lays_297 rfl rfl ?_
    refine gfq167 (pc := 298) rfl dX2_lays_298 V (fun y3 V => ?_)
    refine wq_iload (pc := 301) dX2_lays_301 rfl ?_
    refine wq_ldc2 (pc := 303) (v := (-1 : Int64)) q1024 dX2_lays_303 ?_
    obtain ⟨fs7, w8, V⟩ := V
    refine clq1011 (pc := 306) (As := [.int y3, .int x5, .long (-1 : Int64)]) (st := []) rfl dX2_lays_306 rfl (Nat.le_of_ble_eq_true rfl) w8 V (fun C5 S6 => wx_kv (fun h4 V => ?_))
    refine wq_iinc (L' := [some (.ref x0), none, none, none, none, some (.int (x5 + (1 : Int32))), none, none]) (pc := 309) dX2_lays_309 rfl (by rw [gsti1]) (Nat.le_of_ble_eq_true rfl) rfl ?_
    refine wq_goto (pc := 312) (tgt := 287) dX2_lays_312 rfl ?_
    exact wq_T.less V ⟨rfl, ⟨rfl, trivial⟩⟩
theorem vX2_put_0 {G : wq_G} {l : Launch} {d C S : Nat} {K : wq_H → Prop} {x0 : Nat} {x1 : Int32} {x2 : Int32} {x3 : Int64} {h : wq_H} (V : wq_gR h x0 [(1, 0)] (fun a1 => wq_sj G h a1 ((x1 * (98 : Int32)) + x2) x3 (fun h2 => K h2))) : wq_T G l d mX2_put (wq_qv K) 0 [some (.ref x0), some (.int x1), some (.int x2), some (.long x3), none] [] h C S := by
  refine wq_aload_n (pc := 0) dX2_put_0 rfl rfl ?_
  refine gfq165 (pc := 1) rfl dX2_put_1 V (fun a1 V => ?_)
  refine wq_iload_n (pc := 4) dX2_put_4 rfl rfl ?_
  refine wq_bipush (pc := 5) dX2_put_5 gstb98 ?_
  refine wq_imul (pc := 7) dX2_put_7 ?_
  refine wq_iload_n (pc := 8) dX2_put_8 rfl rfl ?_
  refine wq_iadd (pc := 9) dX2_put_9 ?_
  refine wq_lload_n (pc := 10) dX2_put_10 rfl rfl ?_
  refine wx_sj (pc := 11) dX2_put_11 V (fun h2 V => ?_)
  refine wq_vret (pc := 12) dX2_put_12 rfl ⟨rfl, V⟩
theorem vX2_most_0 {G : wq_G} {l : Launch} {d C S : Nat} {K : Int64 → wq_H → Prop} {x0 : Nat} {x1 : Int32} {h : wq_H} (V : ∃ fs5 : List Value, h x0 = some (.inr (1, fs5)) ∧ (wq_ci G l d C S mX2_enters [.ref x0, .int x1] h (fun y4 h1 C2 S3 => wq_T G l d mX2_most (wq_qj K) 6 [some (.ref x0), some (.int x1), some (.int y4)] [] h1 C2 S3))) : wq_T G l d mX2_most (wq_qj K) 0 [some (.ref x0), some (.int x1), none] [] h C S := by
  refine wq_aload_n (pc := 0) dX2_most_0 rfl rfl ?_
  refine wq_iload_n (pc := 1) dX2_most_1 rfl rfl ?_
  obtain ⟨fs5, w6, V⟩ := V
  refine clq1029 (pc := 2) (As := [.int x1]) (st := []) rfl dX2_most_2 rfl (Nat.le_of_ble_eq_true rfl) w6 V (fun C2 S3 => wx_ki (fun y4 h1 V => ?_))
  refine wq_istore_n (L' := [some (.ref x0), some (.int x1), some (.int y4)]) (pc := 5) dX2_most_5 rfl (Nat.le_of_ble_eq_true rfl) rfl ?_
  exact wq_T.less V ⟨rfl, ⟨rfl, ⟨rfl, trivial⟩⟩⟩
theorem vX2_most_6 {G : wq_G} {l : Launch} {d C S : Nat} {K : Int64 → wq_H → Prop} {x0 : Nat} {x1 : Int32} {x2 : Int32} {h : wq_H} (V : (x2 = (-1 : Int32) → (x1 = 0 → wq_gI h x0 [(1, 2)] (fun y1 => wq_gI h x0 [(1, 4)] (fun y2 => ∃ fs7 : List Value, h x0 = some (.inr (1, fs7)) ∧ (wq_cj G l d C S mX2_at [.ref x0, .int y1, .int y2] h (fun y6 h3 C4 S5 => K y6 h3))))) ∧ (¬ x1 = 0 → wq_gI h x0 [(1, 2)] (fun y9 => wq_gI h x0 [(1, 4)] (fun y10 => ∃ fs15 : List Value, h x0 = some (.inr (1, fs15)) ∧ (wq_cj G l d C S mX2_at [.ref x0, .int (y9 + (1 : Int32)), .int y10] h (fun y14 h11 C12 S13 => K y14 h11)))))) ∧ (¬ x2 = (-1 : Int32) → ∃ fs21 : List Value, h x0 = some (.inr (1, fs21)) ∧ (wq_ci G l d C S mX2_leaves [.ref x0, .int x2] h (fun y20 h17 C18 S19 => ∃ fs26 : List Value, h17 x0 = some (.inr (1, fs26)) ∧ (wq_cw G l d C18 S19 mX2_turns [.ref x0, .int y20, .int x2] h17 (fun h23 C24 S25 => ∃ fs32 : List Value, h23 x0 = some (.inr (1, fs32)) ∧ (wq_ci G l d C24 S25 mX2_enters [.ref x0, .int x1] h23 (fun y31 h28 C29 S30 => wq_T G l d mX2_most (wq_qj K) 6 [some (.ref x0), some (.int x1), some (.int y31)] [] h28 C29 S30)))))))) : wq_T G l d mX2_most (wq_qj K) 6 [some (.ref x0), some (.int x1), some (.int x2)] [] h C S := by
  refine wq_iload_n (pc := 6) dX2_most_6 rfl rfl ?_
  refine wq_iconst (pc := 7) dX2_most_7 gstim1 ?_
  refine wq_icmp_eq (pc := 8) (tgt := 30) dX2_most_8 rfl (fun c => ?_) (fun c => ?_)
  · have V := V.1 c
    refine wq_aload_n (pc := 30) dX2_most_30 rfl rfl ?_
    refine wq_iload_n (pc := 31) dX2_most_31 rfl rfl ?_
    refine wq_if_eq (pc := 32) (tgt := 44) dX2_most_32 rfl (fun c => ?_) (fun c => ?_)
    · have V := V.1 c
      refine wq_aload_n (pc := 44) dX2_most_44 rfl rfl ?_
      refine gfq167 (pc := 45) rfl dX2_most_45 V (fun y1 V => ?_)
      refine wq_aload_n (pc := 48) dX2_most_48 rfl rfl ?_
      refine gfq169 (pc := 49) rfl dX2_most_49 V (fun y2 V => ?_)
      obtain ⟨fs7, w8, V⟩ := V
      refine clq1033 (pc := 52) (As := [.int y1, .int y2]) (st := []) rfl dX2_most_52 rfl (Nat.le_of_ble_eq_true rfl) w8 V (fun C4 S5 => wx_kj (fun y6 h3 V => ?_))
      refine wq_lret (pc := 55) dX2_most_55 rfl ⟨_, rfl, V⟩
    · have V := V.2 c
      refine wq_aload_n (pc := 35) dX2_most_35 rfl rfl ?_
      refine gfq167 (pc := 36) rfl dX2_most_36 V (fun y9 V => ?_)
      refine wq_iconst (pc := 39) dX2_most_39 gsti1 ?_
      refine wq_iadd (pc := 40) dX2_most_40 ?_
      refine wq_goto (pc := 41) (tgt := 48) dX2_most_41 rfl ?_
      refine wq_aload_n (pc := 48) dX2_most_48 rfl rfl ?_
      refine gfq169 (pc := 49) rfl dX2_most_49 V (fun y10 V => ?_)
      obtain ⟨fs15, w16, V⟩ := V
      refine clq1033 (pc := 52) (As := [.int (y9 + (1 : Int32)), .int y10]) (st := []) rfl dX2_most_52 rfl (Nat.le_of_ble_eq_true rfl) w16 V (fun C12 S13 => wx_kj (fun y14 h11 V => ?_))
      refine wq_lret (pc := 55) dX2_most_55 rfl ⟨_, rfl, V⟩
  · have V := V.2 c
    refine wq_aload_n (pc := 11) dX2_most_11 rfl rfl ?_
    refine wq_aload_n (pc := 12) dX2_most_12 rfl rfl ?_
    refine wq_iload_n (pc := 13) dX2_most_13 rfl rfl ?_
    obtain ⟨fs21, w22, V⟩ := V
    refine clq1041 (pc := 14) (As := [.int x2]) (st := [.ref x0]) rfl dX2_most_14 rfl (Nat.le_of_ble_eq_true rfl) w22 V (fun C18 S19 => wx_ki (fun y20 h17 V => ?_))
    refine wq_iload_n (pc := 17) dX2_most_17 rfl rfl ?_
    obtain ⟨fs26, w27, V⟩ := V
    refine clq1045 (pc := 18) (As := [.int y20, .int x2]) (st := []) rfl dX2_most_18 rfl (Nat.le_of_ble_eq_true rfl) w27 V (fun C24 S25 => wx_kv (fun h23 V => ?_))
    refine wq_aload_n (pc := 21) dX2_most_21 rfl rfl ?_
    refine wq_iload_n (pc := 22) dX2_most_22 rfl rfl ?_
    obtain ⟨fs32, w33, V⟩ := V
    refine clq1029 (pc := 23) (As := [.int x1]) (st := []) rfl dX2_most_23 rfl (Nat.le_of_ble_eq_true rfl) w33 V (fun C29 S30 => wx_ki (fun y31 h28 V => ?_))
    refine wq_istore_n (L' := [some (.ref x0), some (.int x1), some (.int y31)]) (pc := 26) dX2_most_26 rfl (Nat.le_of_ble_eq_true rfl) rfl ?_
    refine wq_goto (pc := 27) (tgt := 6) dX2_most_27 rfl ?_
    exact wq_T.less V ⟨rfl, ⟨rfl, ⟨rfl, trivial⟩⟩⟩
theorem vX2_enters_0 {G : wq_G} {l : Launch} {d C S : Nat} {K : Int32 → wq_H → Prop} {x0 : Nat} {x1 : Int32} {h : wq_H} (V : (x1 = 0 → wq_gI h x0 [(1, 2)] (fun y1 => wq_T G l d mX2_enters (wq_qi K) 20 [some (.ref x0), some (.int x1), some (.int y1), some (.int (0 : Int32))] [] h C S)) ∧ (¬ x1 = 0 → wq_gI h x0 [(1, 2)] (fun y2 => wq_T G l d mX2_enters (wq_qi K) 20 [some (.ref x0), some (.int x1), some (.int (y2 + (1 : Int32))), some (.int (0 : Int32))] [] h C S))) : wq_T G l d mX2_enters (wq_qi K) 0 [some (.ref x0), some (.int x1), none, none] [] h C S := by
  refine wq_iload_n (pc := 0) dX2_enters_0 rfl rfl ?_
  refine wq_if_eq (pc := 1) (tgt := 13) dX2_enters_1 rfl (fun c => ?_) (fun c => ?_)
  · have V := V.1 c
    refine wq_aload_n (pc := 13) dX2_enters_13 rfl rfl ?_
    refine gfq167 (pc := 14) rfl dX2_enters_14 V (fun y1 V => ?_)
    refine wq_istore_n (L' := [some (.ref x0), some (.int x1), some (.int y1), none]) (pc := 17) dX2_enters_17 rfl (Nat.le_of_ble_eq_true rfl) rfl ?_
    refine wq_iconst (pc := 18) dX2_enters_18 gsti0 ?_
    refine wq_istore_n (L' := [some (.ref x0), some (.int x1), some (.int y1), some (.int (0 : Int32))]) (pc := 19) dX2_enters_19 rfl (Nat.le_of_ble_eq_true rfl) rfl ?_
    exact wq_T.less V ⟨rfl, ⟨rfl, ⟨rfl, ⟨rfl, trivial⟩⟩⟩⟩
  · have V := V.2 c
    refine wq_aload_n (pc := 4) dX2_enters_4 rfl rfl ?_
    refine gfq167 (pc := 5) rfl dX2_enters_5 V (fun y2 V => ?_)
    refine wq_iconst (pc := 8) dX2_enters_8 gsti1 ?_
    refine wq_iadd (pc := 9) dX2_enters_9 ?_
    refine wq_goto (pc := 10) (tgt := 17) dX2_enters_10 rfl ?_
    refine wq_istore_n (L' := [some (.ref x0), some (.int x1), some (.int (y2 + (1 : Int32))), none]) (pc := 17) dX2_enters_17 rfl (Nat.le_of_ble_eq_true rfl) rfl ?_
    refine wq_iconst (pc := 18) dX2_enters_18 gsti0 ?_
    refine wq_istore_n (L' := [some (.ref x0), some (.int x1), some (.int (y2 + (1 : Int32))), some (.int (0 : Int32))]) (pc := 19) dX2_enters_19 rfl (Nat.le_of_ble_eq_true rfl) rfl ?_
    exact wq_T.less V ⟨rfl, ⟨rfl, ⟨rfl, ⟨rfl, trivial⟩⟩⟩⟩
theorem vX2_enters_20 {G : wq_G} {l : Launch} {d C S : Nat} {K : Int32 → wq_H → Prop} {x0 : Nat} {x1 : Int32} {x2 : Int32} {x3 : Int32} {h : wq_H} (V : wq_gI h x0 [(1, 4)] (fun y1 => (y1 ≤ x3 → K (-1 : Int32) h) ∧ (¬ y1 ≤ x3 → ∃ fs6 : List Value, h x0 = some (.inr (1, fs6)) ∧ (wq_cj G l d C S mX2_at [.ref x0, .int x2, .int x3] h (fun y5 h2 C3 S4 => (0 ≤ (lg_cmp y5 (0 : Int64)) → wq_T G l d mX2_enters (wq_qi K) 20 [some (.ref x0), some (.int x1), some (.int x2), some (.int (x3 + (1 : Int32)))] [] h2 C3 S4) ∧ (¬ 0 ≤ (lg_cmp y5 (0 : Int64)) → ∃ fs12 : List Value, h2 x0 = some (.inr (1, fs12)) ∧ (wq_ci G l d C3 S4 mX2_isFree [.ref x0, .int x3, .int x1] h2 (fun y11 h8 C9 S10 => (y11 = 0 → wq_T G l d mX2_enters (wq_qi K) 20 [some (.ref x0), some (.int x1), some (.int x2), some (.int (x3 + (1 : Int32)))] [] h8 C9 S10) ∧ (¬ y11 = 0 → K x3 h8))))))))) : wq_T G l d mX2_enters (wq_qi K) 20 [some (.ref x0), some (.int x1), some (.int x2), some (.int x3)] [] h C S := by
  refine wq_iload_n (pc := 20) dX2_enters_20 rfl rfl ?_
  refine wq_aload_n (pc := 21) dX2_enters_21 rfl rfl ?_
  refine gfq169 (pc := 22) rfl dX2_enters_22 V (fun y1 V => ?_)
  refine wq_icmp_ge (pc := 25) (tgt := 56) dX2_enters_25 rfl (fun c => ?_) (fun c => ?_)
  · have V := V.1 c
    refine wq_iconst (pc := 56) dX2_enters_56 gstim1 ?_
    refine wq_iret (pc := 57) dX2_enters_57 rfl ⟨_, rfl, V⟩
  · have V := V.2 c
    refine wq_aload_n (pc := 28) dX2_enters_28 rfl rfl ?_
    refine wq_iload_n (pc := 29) dX2_enters_29 rfl rfl ?_
    refine wq_iload_n (pc := 30) dX2_enters_30 rfl rfl ?_
    obtain ⟨fs6, w7, V⟩ := V
    refine clq1033 (pc := 31) (As := [.int x2, .int x3]) (st := []) rfl dX2_enters_31 rfl (Nat.le_of_ble_eq_true rfl) w7 V (fun C3 S4 => wx_kj (fun y5 h2 V => ?_))
    refine wq_lconst (pc := 34) dX2_enters_34 gstl0 ?_
    refine wq_lcmp (pc := 35) dX2_enters_35 ?_
    refine wq_if_ge (pc := 36) (tgt := 50) dX2_enters_36 rfl (fun c => ?_) (fun c => ?_)
    · have V := V.1 c
      refine wq_iinc (L' := [some (.ref x0), some (.int x1), some (.int x2), some (.int (x3 + (1 : Int32)))]) (pc := 50) dX2_enters_50 rfl (by rw [gsti1]) (Nat.le_of_ble_eq_true rfl) rfl ?_
      refine wq_goto (pc := 53) (tgt := 20) dX2_enters_53 rfl ?_
      exact wq_T.less V ⟨rfl, ⟨rfl, ⟨rfl, ⟨rfl, trivial⟩⟩⟩⟩
    · have V := V.2 c
      refine wq_aload_n (pc := 39) dX2_enters_39 rfl rfl ?_
      refine wq_iload_n (pc := 40) dX2_enters_40 rfl rfl ?_
      refine wq_iload_n (pc := 41) dX2_enters_41 rfl rfl ?_
      obtain ⟨fs12, w13, V⟩ := V
      refine clq1037 (pc := 42) (As := [.int x3, .int x1]) (st := []) rfl dX2_enters_42 rfl (Nat.le_of_ble_eq_true rfl) w13 V (fun C9 S10 => wx_ki (fun y11 h8 V => ?_))
      refine wq_if_eq (pc := 45) (tgt := 50) dX2_enters_45 rfl (fun c => ?_) (fun c => ?_)
      · have V := V.1 c
        refine wq_iinc (L' := [some (.ref x0), some (.int x1), some (.int x2), some (.int (x3 + (1 : Int32)))]) (pc := 50) dX2_enters_50 rfl (by rw [gsti1]) (Nat.le_of_ble_eq_true rfl) rfl ?_
        refine wq_goto (pc := 53) (tgt := 20) dX2_enters_53 rfl ?_
        exact wq_T.less V ⟨rfl, ⟨rfl, ⟨rfl, ⟨rfl, trivial⟩⟩⟩⟩
      · have V := V.2 c
        refine wq_iload_n (pc := 48) dX2_enters_48 rfl rfl ?_
        refine wq_iret (pc := 49) dX2_enters_49 rfl ⟨_, rfl, V⟩
theorem vX2_at_0 {G : wq_G} {l : Launch} {d C S : Nat} {K : Int64 → wq_H → Prop} {x0 : Nat} {x1 : Int32} {x2 : Int32} {h : wq_H} (V : wq_gR h x0 [(1, 0)] (fun a1 => wq_aj G h a1 ((x1 * (98 : Int32)) + x2) (fun y2 => K y2 h))) : wq_T G l d mX2_at (wq_qj K) 0 [some (.ref x0), some (.int x1), some (.int x2)] [] h C S := by
  refine wq_aload_n (pc := 0) dX2_at_0 rfl rfl ?_
  refine gfq165 (pc := 1) rfl dX2_at_1 V (fun a1 V => ?_)
  refine wq_iload_n (pc := 4) dX2_at_4 rfl rfl ?_
  refine wq_bipush (pc := 5) dX2_at_5 gstb98 ?_
  refine wq_imul (pc := 7) dX2_at_7 ?_
  refine wq_iload_n (pc := 8) dX2_at_8 rfl rfl ?_
  refine wq_iadd (pc := 9) dX2_at_9 ?_
  refine wx_aj (pc := 10) dX2_at_10 V (fun y2 V => ?_)
  refine wq_lret (pc := 11) dX2_at_11 rfl ⟨_, rfl, V⟩
theorem vX2_isFree_0 {G : wq_G} {l : Launch} {d C S : Nat} {K : Int32 → wq_H → Prop} {x0 : Nat} {x1 : Int32} {x2 : Int32} {h : wq_H} (V : (x2 = 0 → K (1 : Int32) h) ∧ (¬ x2 = 0 → wq_gI h x0 [(1, 2)] (fun y1 => ∃ fs6 : List Value, h x0 = some (.inr (1, fs6)) ∧ (wq_cj G l d C S mX2_at [.ref x0, .int y1, .int x1] h (fun y5 h2 C3 S4 => (¬ (lg_cmp y5 (0 : Int64)) = 0 → K (0 : Int32) h2) ∧ ((lg_cmp y5 (0 : Int64)) = 0 → K (1 : Int32) h2)))))) : wq_T G l d mX2_isFree (wq_qi K) 0 [some (.ref x0), some (.int x1), some (.int x2)] [] h C S := by
  refine wq_iload_n (pc := 0) dX2_isFree_0 rfl rfl ?_
  refine wq_if_eq (pc := 1) (tgt := 18) dX2_isFree_1 rfl (fun c => ?_) (fun c => ?_)
  · have V := V.1 c
    refine wq_iconst (pc := 18) dX2_isFree_18 gsti1 ?_
    refine wq_goto (pc := 19) (tgt := 23) dX2_isFree_19 rfl ?_
    refine wq_zret (pc := 23) dX2_isFree_23 rfl gn_b1 ⟨_, rfl, V⟩
  · have V := V.2 c
    refine wq_aload_n (pc := 4) dX2_isFree_4 rfl rfl ?_
    refine wq_aload_n (pc := 5) dX2_isFree_5 rfl rfl ?_
    refine gfq167 (pc := 6) rfl dX2_isFree_6 V (fun y1 V => ?_)
    refine wq_iload_n (pc := 9) dX2_isFree_9 rfl rfl ?_
    obtain ⟨fs6, w7, V⟩ := V
    refine clq1033 (pc := 10) (As := [.int y1, .int x1]) (st := []) rfl dX2_isFree_10 rfl (Nat.le_of_ble_eq_true rfl) w7 V (fun C3 S4 => wx_kj (fun y5 h2 V => ?_))
    refine wq_lconst (pc := 13) dX2_isFree_13 gstl0 ?_
    refine wq_lcmp (pc := 14) dX2_isFree_14 ?_
    refine wq_if_ne (pc := 15) (tgt := 22) dX2_isFree_15 rfl (fun c => ?_) (fun c => ?_)
    · have V := V.1 c
      refine wq_iconst (pc := 22) dX2_isFree_22 gsti0 ?_
      refine wq_zret (pc := 23) dX2_isFree_23 rfl gn_b0 ⟨_, rfl, V⟩
    · have V := V.2 c
      refine wq_iconst (pc := 18) dX2_isFree_18 gsti1 ?_
      refine wq_goto (pc := 19) (tgt := 23) dX2_isFree_19 rfl ?_
      refine wq_zret (pc := 23) dX2_isFree_23 rfl gn_b1 ⟨_, rfl, V⟩
theorem vX2_leaves_0 {G : wq_G} {l : Launch} {d C S : Nat} {K : Int32 → wq_H → Prop} {x0 : Nat} {x1 : Int32} {h : wq_H} (V : wq_T G l d mX2_leaves (wq_qi K) 4 [some (.ref x0), some (.int x1), some (.int (-1 : Int32)), some (.int (0 : Int32)), none, none] [] h C S) : wq_T G l d mX2_leaves (wq_qi K) 0 [some (.ref x0), some (.int x1), none, none, none, none] [] h C S := by
  refine wq_iconst (pc := 0) dX2_leaves_0 gstim1 ?_
  refine wq_istore_n (L' := [some (.ref x0), some (.int x1), some (.int (-1 : Int32)), none, none, none]) (pc := 1) dX2_leaves_1 rfl (Nat.le_of_ble_eq_true rfl) rfl ?_
  refine wq_iconst (pc := 2) dX2_leaves_2 gsti0 ?_
  refine wq_istore_n (L' := [some (.ref x0), some (.int x1), some (.int (-1 : Int32)), some (.int (0 : Int32)), none, none]) (pc := 3) dX2_leaves_3 rfl (Nat.le_of_ble_eq_true rfl) rfl ?_
  exact wq_T.less V ⟨rfl, ⟨rfl, ⟨rfl, ⟨rfl, trivial⟩⟩⟩⟩
theorem vX2_leaves_4 {G : wq_G} {l : Launch} {d C S : Nat} {K : Int32 → wq_H → Prop} {x0 : Nat} {x1 : Int32} {x2 : Int32} {x3 : Int32} {h : wq_H} (V : wq_gI h x0 [(1, 2)] (fun y1 => (y1 ≤ x3 → K x2 h) ∧ (¬ y1 ≤ x3 → ∃ fs6 : List Value, h x0 = some (.inr (1, fs6)) ∧ (wq_cj G l d C S mX2_at [.ref x0, .int x3, .int x1] h (fun y5 h2 C3 S4 => (0 < (lg_cmp y5 (0 : Int64)) → (¬ x2 = (-1 : Int32) → wq_gI h2 x0 [(1, 4)] (fun y8 => ∃ fs13 : List Value, h2 x0 = some (.inr (1, fs13)) ∧ (wq_cj G l d C3 S4 mX2_at [.ref x0, .int x3, .int y8] h2 (fun y12 h9 C10 S11 => ∃ fs19 : List Value, h9 x0 = some (.inr (1, fs19)) ∧ (wq_cj G l d C10 S11 mX2_at [.ref x0, .int x2, .int x1] h9 (fun y18 h15 C16 S17 => wq_gI h15 x0 [(1, 4)] (fun y21 => ∃ fs26 : List Value, h15 x0 = some (.inr (1, fs26)) ∧ (wq_cj G l d C16 S17 mX2_at [.ref x0, .int x2, .int y21] h15 (fun y25 h22 C23 S24 => ∃ fs32 : List Value, h22 x0 = some (.inr (1, fs32)) ∧ (wq_cj G l d C23 S24 mX2_at [.ref x0, .int x3, .int x1] h22 (fun y31 h28 C29 S30 => ((lg_cmp ((y12 * y18) - (y25 * y31)) (0 : Int64)) < 0 → wq_T G l d mX2_leaves (wq_qi K) 4 [some (.ref x0), some (.int x1), some (.int x3), some (.int (x3 + (1 : Int32))), none, none] [] h28 C29 S30) ∧ (¬ (lg_cmp ((y12 * y18) - (y25 * y31)) (0 : Int64)) < 0 → (¬ (lg_cmp ((y12 * y18) - (y25 * y31)) (0 : Int64)) = 0 → wq_T G l d mX2_leaves (wq_qi K) 4 [some (.ref x0), some (.int x1), some (.int x2), some (.int (x3 + (1 : Int32))), none, none] [] h28 C29 S30) ∧ ((lg_cmp ((y12 * y18) - (y25 * y31)) (0 : Int64)) = 0 → wq_gR h28 x0 [(1, 1)] (fun a34 => wq_ai G h28 a34 x3 (fun y35 => wq_gR h28 x0 [(1, 1)] (fun a36 => wq_ai G h28 a36 x2 (fun y37 => (y37 ≤ y35 → wq_T G l d mX2_leaves (wq_qi K) 4 [some (.ref x0), some (.int x1), some (.int x2), some (.int (x3 + (1 : Int32))), none, none] [] h28 C29 S30) ∧ (¬ y37 ≤ y35 → wq_T G l d mX2_leaves (wq_qi K) 4 [some (.ref x0), some (.int x1), some (.int x3), some (.int (x3 + (1 : Int32))), none, none] [] h28 C29 S30)))))))))))))))))) ∧ (x2 = (-1 : Int32) → wq_T G l d mX2_leaves (wq_qi K) 4 [some (.ref x0), some (.int x1), some (.int x3), some (.int (x3 + (1 : Int32))), none, none] [] h2 C3 S4)) ∧ (¬ 0 < (lg_cmp y5 (0 : Int64)) → wq_T G l d mX2_leaves (wq_qi K) 4 [some (.ref x0), some (.int x1), some (.int x2), some (.int (x3 + (1 : Int32))), none, none] [] h2 C3 S4)))))) : wq_T G l d mX2_leaves (wq_qi K) 4 [some (.ref x0), some (.int x1), some (.int x2), some (.int x3), none, none] [] h C S := by
  refine wq_iload_n (pc := 4) dX2_leaves_4 rfl rfl ?_
  refine wq_aload_n (pc := 5) dX2_leaves_5 rfl rfl ?_
  refine gfq167 (pc := 6) rfl dX2_leaves_6 V (fun y1 V => ?_)
  refine wq_icmp_ge (pc := 9) (tgt := 108) dX2_leaves_9 rfl (fun c => ?_) (fun c => ?_)
  · have V := V.1 c
    refine wq_iload_n (pc := 108) dX2_leaves_108 rfl rfl ?_
    refine wq_iret (pc := 109) dX2_leaves_109 rfl ⟨_, rfl, V⟩
  · have V := V.2 c
    refine wq_aload_n (pc := 12) dX2_leaves_12 rfl rfl ?_
    refine wq_iload_n (pc := 13) dX2_leaves_13 rfl rfl ?_
    refine wq_iload_n (pc := 14) dX2_leaves_14 rfl rfl ?_
    obtain ⟨fs6, w7, V⟩ := V
    refine clq1033 (pc := 15) (As := [.int x3, .int x1]) (st := []) rfl dX2_leaves_15 rfl (Nat.le_of_ble_eq_true rfl) w7 V (fun C3 S4 => wx_kj (fun y5 h2 V => ?_))
    refine wq_lconst (pc := 18) dX2_leaves_18 gstl0 ?_
    refine wq_lcmp (pc := 19) dX2_leaves_19 ?_
    refine wq_if_gt (pc := 20) (tgt := 26) dX2_leaves_20 rfl (fun c => ?_) (fun c => ?_)
    · have V := V.1 c
      refine wq_iload_n (pc := 26) dX2_leaves_26 rfl rfl ?_
      refine wq_iconst (pc := 27) dX2_leaves_27 gstim1 ?_
      refine wq_icmp_ne (pc := 28) (tgt := 36) dX2_leaves_28 rfl (fun c => ?_) (fun c => ?_)
      · have V := V.1 c
        refine wq_aload_n (pc := 36) dX2_leaves_36 rfl rfl ?_
        refine wq_iload_n (pc := 37) dX2_leaves_37 rfl rfl ?_
        refine wq_aload_n (pc := 38) dX2_leaves_38 rfl rfl ?_
        refine gfq169 (pc := 39) rfl dX2_leaves_39 V (fun y8 V => ?_)
        obtain ⟨fs13, w14, V⟩ := V
        refine clq1033 (pc := 42) (As := [.int x3, .int y8]) (st := []) rfl dX2_leaves_42 rfl (Nat.le_of_ble_eq_true rfl) w14 V (fun C10 S11 => wx_kj (fun y12 h9 V => ?_))
        refine wq_aload_n (pc := 45) dX2_leaves_45 rfl rfl ?_
        refine wq_iload_n (pc := 46) dX2_leaves_46 rfl rfl ?_
        refine wq_iload_n (pc := 47) dX2_leaves_47 rfl rfl ?_
        obtain ⟨fs19, w20, V⟩ := V
        refine clq1033 (pc := 48) (As := [.int x2, .int x1]) (st := [.long y12]) rfl dX2_leaves_48 rfl (Nat.le_of_ble_eq_true rfl) w20 V (fun C16 S17 => wx_kj (fun y18 h15 V => ?_))
        refine wq_lmul (pc := 51) dX2_leaves_51 ?_
        refine wq_aload_n (pc := 52) dX2_leaves_52 rfl rfl ?_
        refine wq_iload_n (pc := 53) dX2_leaves_53 rfl rfl ?_
        refine wq_aload_n (pc := 54) dX2_leaves_54 rfl rfl ?_
        refine gfq169 (pc := 55) rfl dX2_leaves_55 V (fun y21 V => ?_)
        obtain ⟨fs26, w27, V⟩ := V
        refine clq1033 (pc := 58) (As := [.int x2, .int y21]) (st := [.long (y12 * y18)]) rfl dX2_leaves_58 rfl (Nat.le_of_ble_eq_true rfl) w27 V (fun C23 S24 => wx_kj (fun y25 h22 V => ?_))
        refine wq_aload_n (pc := 61) dX2_leaves_61 rfl rfl ?_
        refine wq_iload_n (pc := 62) dX2_leaves_62 rfl rfl ?_
        refine wq_iload_n (pc := 63) dX2_leaves_63 rfl rfl ?_
        obtain ⟨fs32, w33, V⟩ := V
        refine clq1033 (pc := 64) (As := [.int x3, .int x1]) (st := [.long y25, .long (y12 * y18)]) rfl dX2_leaves_64 rfl (Nat.le_of_ble_eq_true rfl) w33 V (fun C29 S30 => wx_kj (fun y31 h28 V => ?_))
        refine wq_lmul (pc := 67) dX2_leaves_67 ?_
        refine wq_lsub (pc := 68) dX2_leaves_68 ?_
        refine wq_lstore (L' := [some (.ref x0), some (.int x1), some (.int x2), some (.int x3), some (.long ((y12 * y18) - (y25 * y31))), none]) (pc := 69) dX2_leaves_69 (Nat.le_of_ble_eq_true rfl) rfl ?_
        refine wq_lload (pc := 71) dX2_leaves_71 rfl ?_
        refine wq_lconst (pc := 73) dX2_leaves_73 gstl0 ?_
        refine wq_lcmp (pc := 74) dX2_leaves_74 ?_
        refine wq_if_lt (pc := 75) (tgt := 100) dX2_leaves_75 rfl (fun c => ?_) (fun c => ?_)
        · have V := V.1 c
          refine wq_iload_n (pc := 100) dX2_leaves_100 rfl rfl ?_
          refine wq_istore_n (L' := [some (.ref x0), some (.int x1), some (.int x3), some (.int x3), some (.long ((y12 * y18) - (y25 * y31))), none]) (pc := 101) dX2_leaves_101 rfl (Nat.le_of_ble_eq_true rfl) rfl ?_
          refine wq_iinc (L' := [some (.ref x0), some (.int x1), some (.int x3), some (.int (x3 + (1 : Int32))), some (.long ((y12 * y18) - (y25 * y31))), none]) (pc := 102) dX2_leaves_102 rfl (by rw [gsti1]) (Nat.le_of_ble_eq_true rfl) rfl ?_
          refine wq_goto (pc := 105) (tgt := 4) dX2_leaves_105 rfl ?_
          exact wq_T.less V ⟨rfl, ⟨rfl, ⟨rfl, ⟨rfl, trivial⟩⟩⟩⟩
        · have V := V.2 c
          refine wq_lload (pc := 78) dX2_leaves_78 rfl ?_
          refine wq_lconst (pc := 80) dX2_leaves_80 gstl0 ?_
          refine wq_lcmp (pc := 81) dX2_leaves_81 ?_
          refine wq_if_ne (pc := 82) (tgt := 102) dX2_leaves_82 rfl (fun c => ?_) (fun c => ?_)
          · have V := V.1 c
            refine wq_iinc (L' := [some (.ref x0), some (.int x1), some (.int x2), some (.int (x3 + (1 : Int32))), some (.long ((y12 * y18) - (y25 * y31))), none]) (pc := 102) dX2_leaves_102 rfl (by rw [gsti1]) (Nat.le_of_ble_eq_true rfl) rfl ?_
            refine wq_goto (pc := 105) (tgt := 4) dX2_leaves_105 rfl ?_
            exact wq_T.less V ⟨rfl, ⟨rfl, ⟨rfl, ⟨rfl, trivial⟩⟩⟩⟩
          · have V := V.2 c
            refine wq_aload_n (pc := 85) dX2_leaves_85 rfl rfl ?_
            refine gfq166 (pc := 86) rfl dX2_leaves_86 V (fun a34 V => ?_)
            refine wq_iload_n (pc := 89) dX2_leaves_89 rfl rfl ?_
            refine wx_ai (pc := 90) dX2_leaves_90 V (fun y35 V => ?_)
            refine wq_aload_n (pc := 91) dX2_leaves_91 rfl rfl ?_
            refine gfq166 (pc := 92) rfl dX2_leaves_92 V (fun a36 V => ?_)
            refine wq_iload_n (pc := 95) dX2_leaves_95 rfl rfl ?_
            refine wx_ai (pc := 96) dX2_leaves_96 V (fun y37 V => ?_)
            refine wq_icmp_ge (pc := 97) (tgt := 102) dX2_leaves_97 rfl (fun c => ?_) (fun c => ?_)
            · have V := V.1 c
              refine wq_iinc (L' := [some (.ref x0), some (.int x1), some (.int x2), some (.int (x3 + (1 : Int32))), some (.long ((y12 * y18) - (y25 * y31))), none]) (pc := 102) dX2_leaves_102 rfl (by rw [gsti1]) (Nat.le_of_ble_eq_true rfl) rfl ?_
              refine wq_goto (pc := 105) (tgt := 4) dX2_leaves_105 rfl ?_
              exact wq_T.less V ⟨rfl, ⟨rfl, ⟨rfl, ⟨rfl, trivial⟩⟩⟩⟩
            · have V := V.2 c
              refine wq_iload_n (pc := 100) dX2_leaves_100 rfl rfl ?_
              refine wq_istore_n (L' := [some (.ref x0), some (.int x1), some (.int x3), some (.int x3), some (.long ((y12 * y18) - (y25 * y31))), none]) (pc := 101) dX2_leaves_101 rfl (Nat.le_of_ble_eq_true rfl) rfl ?_
              refine wq_iinc (L' := [some (.ref x0), some (.int x1), some (.int x3), some (.int (x3 + (1 : Int32))), some (.long ((y12 * y18) - (y25 * y31))), none]) (pc := 102) dX2_leaves_102 rfl (by rw [gsti1]) (Nat.le_of_ble_eq_true rfl) rfl ?_
              refine wq_goto (pc := 105) (tgt := 4) dX2_leaves_105 rfl ?_
              exact wq_T.less V ⟨rfl, ⟨rfl, ⟨rfl, ⟨rfl, trivial⟩⟩⟩⟩
      · have V := V.2 c
        refine wq_iload_n (pc := 31) dX2_leaves_31 rfl rfl ?_
        refine wq_istore_n (L' := [some (.ref x0), some (.int x1), some (.int x3), some (.int x3), none, none]) (pc := 32) dX2_leaves_32 rfl (Nat.le_of_ble_eq_true rfl) rfl ?_
        refine wq_goto (pc := 33) (tgt := 102) dX2_leaves_33 rfl ?_
        refine wq_iinc (L' := [some (.ref x0), some (.int x1), some (.int x3), some (.int (x3 + (1 : Int32))), none, none]) (pc := 102) dX2_leaves_102 rfl (by rw [gsti1]) (Nat.le_of_ble_eq_true rfl) rfl ?_
        refine wq_goto (pc := 105) (tgt := 4) dX2_leaves_105 rfl ?_
        exact wq_T.less V ⟨rfl, ⟨rfl, ⟨rfl, ⟨rfl, trivial⟩⟩⟩⟩
    · have V := V.2 c
      refine wq_goto (pc := 23) (tgt := 102) dX2_leaves_23 rfl ?_
      refine wq_iinc (L' := [some (.ref x0), some (.int x1), some (.int x2), some (.int (x3 + (1 : Int32))), none, none]) (pc := 102) dX2_leaves_102 rfl (by rw [gsti1]) (Nat.le_of_ble_eq_true rfl) rfl ?_
      refine wq_goto (pc := 105) (tgt := 4) dX2_leaves_105 rfl ?_
      exact wq_T.less V ⟨rfl, ⟨rfl, ⟨rfl, ⟨rfl, trivial⟩⟩⟩⟩
theorem vX2_turns_0 {G : wq_G} {l : Launch} {d C S : Nat} {K : wq_H → Prop} {x0 : Nat} {x1 : Int32} {x2 : Int32} {h : wq_H} (V : ∃ fs5 : List Value, h x0 = some (.inr (1, fs5)) ∧ (wq_cj G l d C S mX2_at [.ref x0, .int x1, .int x2] h (fun y4 h1 C2 S3 => wq_T G l d mX2_turns (wq_qv K) 10 [some (.ref x0), some (.int x1), some (.int x2), some (.long y4), none, some (.int (0 : Int32)), none, none, none] [] h1 C2 S3))) : wq_T G l d mX2_turns (wq_qv K) 0 [some (.ref x0), some (.int x1), some (.int x2), none, none, none, none, none, none] [] h C S := by
  refine wq_aload_n (pc := 0) dX2_turns_0 rfl rfl ?_
  refine wq_iload_n (pc := 1) dX2_turns_1 rfl rfl ?_
  refine wq_iload_n (pc := 2) dX2_turns_2 rfl rfl ?_
  obtain ⟨fs5, w6, V⟩ := V
  refine clq1033 (pc := 3) (As := [.int x1, .int x2]) (st := []) rfl dX2_turns_3 rfl (Nat.le_of_ble_eq_true rfl) w6 V (fun C2 S3 => wx_kj (fun y4 h1 V => ?_))
  refine wq_lstore_n (L' := [some (.ref x0), some (.int x1), some (.int x2), some (.long y4), none, none, none, none, none]) (pc := 6) dX2_turns_6 rfl (Nat.le_of_ble_eq_true rfl) rfl ?_
  refine wq_iconst (pc := 7) dX2_turns_7 gsti0 ?_
  refine wq_istore (L' := [some (.ref x0), some (.int x1), some (.int x2), some (.long y4), none, some (.int (0 : Int32)), none, none, none]) (pc := 8) dX2_turns_8 (Nat.le_of_ble_eq_true rfl) rfl ?_
  exact wq_T.less V ⟨rfl, ⟨rfl, ⟨rfl, ⟨rfl, ⟨rfl, trivial⟩⟩⟩⟩⟩
theorem vX2_turns_10 {G : wq_G} {l : Launch} {d C S : Nat} {K : wq_H → Prop} {x0 : Nat} {x1 : Int32} {x2 : Int32} {x3 : Int64} {x5 : Int32} {h : wq_H} (V : wq_gI h x0 [(1, 2)] (fun y1 => ((y1 + (2 : Int32)) ≤ x5 → wq_pf G h x0 [(1, 5)] (.long x3) (fun h2 => wq_gR h2 x0 [(1, 1)] (fun a3 => wq_si G h2 a3 x1 x2 (fun h4 => K h4)))) ∧ (¬ (y1 + (2 : Int32)) ≤ x5 → (¬ x5 = x1 → ∃ fs9 : List Value, h x0 = some (.inr (1, fs9)) ∧ (wq_cj G l d C S mX2_at [.ref x0, .int x5, .int x2] h (fun y8 h5 C6 S7 => wq_T G l d mX2_turns (wq_qv K) 42 [some (.ref x0), some (.int x1), some (.int x2), some (.long x3), none, some (.int x5), some (.long y8), none, some (.int (0 : Int32))] [] h5 C6 S7))) ∧ (x5 = x1 → wq_T G l d mX2_turns (wq_qv K) 10 [some (.ref x0), some (.int x1), some (.int x2), some (.long x3), none, some (.int (x5 + (1 : Int32))), none, none, none] [] h C S)))) : wq_T G l d mX2_turns (wq_qv K) 10 [some (.ref x0), some (.int x1), some (.int x2), some (.long x3), none, some (.int x5), none, none, none] [] h C S := by
  refine wq_iload (pc := 10) dX2_turns_10 rfl ?_
  refine wq_aload_n (pc := 12) dX2_turns_12 rfl rfl ?_
  refine gfq167 (pc := 13) rfl dX2_turns_13 V (fun y1 V => ?_)
  refine wq_iconst (pc := 16) dX2_turns_16 gsti2 ?_
  refine wq_iadd (pc := 17) dX2_turns_17 ?_
  refine wq_icmp_ge (pc := 18) (tgt := 97) dX2_turns_18 rfl (fun c => ?_) (fun c => ?_)
  · have V := V.1 c
    refine wq_aload_n (pc := 97) dX2_turns_97 rfl rfl ?_
    refine wq_lload_n (pc := 98) dX2_turns_98 rfl rfl ?_
    refine pfq170 (pc := 99) rfl dX2_turns_99 ⟨rfl, rfl⟩ V (fun h2 V => ?_)
    refine wq_aload_n (pc := 102) dX2_turns_102 rfl rfl ?_
    refine gfq166 (pc := 103) rfl dX2_turns_103 V (fun a3 V => ?_)
    refine wq_iload_n (pc := 106) dX2_turns_106 rfl rfl ?_
    refine wq_iload_n (pc := 107) dX2_turns_107 rfl rfl ?_
    refine wx_si (pc := 108) dX2_turns_108 V (fun h4 V => ?_)
    refine wq_vret (pc := 109) dX2_turns_109 rfl ⟨rfl, V⟩
  · have V := V.2 c
    refine wq_iload (pc := 21) dX2_turns_21 rfl ?_
    refine wq_iload_n (pc := 23) dX2_turns_23 rfl rfl ?_
    refine wq_icmp_ne (pc := 24) (tgt := 30) dX2_turns_24 rfl (fun c => ?_) (fun c => ?_)
    · have V := V.1 c
      refine wq_aload_n (pc := 30) dX2_turns_30 rfl rfl ?_
      refine wq_iload (pc := 31) dX2_turns_31 rfl ?_
      refine wq_iload_n (pc := 33) dX2_turns_33 rfl rfl ?_
      obtain ⟨fs9, w10, V⟩ := V
      refine clq1033 (pc := 34) (As := [.int x5, .int x2]) (st := []) rfl dX2_turns_34 rfl (Nat.le_of_ble_eq_true rfl) w10 V (fun C6 S7 => wx_kj (fun y8 h5 V => ?_))
      refine wq_lstore (L' := [some (.ref x0), some (.int x1), some (.int x2), some (.long x3), none, some (.int x5), some (.long y8), none, none]) (pc := 37) dX2_turns_37 (Nat.le_of_ble_eq_true rfl) rfl ?_
      refine wq_iconst (pc := 39) dX2_turns_39 gsti0 ?_
      refine wq_istore (L' := [some (.ref x0), some (.int x1), some (.int x2), some (.long x3), none, some (.int x5), some (.long y8), none, some (.int (0 : Int32))]) (pc := 40) dX2_turns_40 (Nat.le_of_ble_eq_true rfl) rfl ?_
      exact wq_T.less V ⟨rfl, ⟨rfl, ⟨rfl, ⟨rfl, ⟨rfl, ⟨rfl, ⟨rfl, trivial⟩⟩⟩⟩⟩⟩⟩
    · have V := V.2 c
      refine wq_goto (pc := 27) (tgt := 91) dX2_turns_27 rfl ?_
      refine wq_iinc (L' := [some (.ref x0), some (.int x1), some (.int x2), some (.long x3), none, some (.int (x5 + (1 : Int32))), none, none, none]) (pc := 91) dX2_turns_91 rfl (by rw [gsti1]) (Nat.le_of_ble_eq_true rfl) rfl ?_
      refine wq_goto (pc := 94) (tgt := 10) dX2_turns_94 rfl ?_
      exact wq_T.less V ⟨rfl, ⟨rfl, ⟨rfl, ⟨rfl, ⟨rfl, trivial⟩⟩⟩⟩⟩
theorem vX2_turns_42 {G : wq_G} {l : Launch} {d C S : Nat} {K : wq_H → Prop} {x0 : Nat} {x1 : Int32} {x2 : Int32} {x3 : Int64} {x5 : Int32} {x6 : Int64} {x8 : Int32} {h : wq_H} (V : wq_gI h x0 [(1, 4)] (fun y1 => (y1 < x8 → wq_T G l d mX2_turns (wq_qv K) 10 [some (.ref x0), some (.int x1), some (.int x2), some (.long x3), none, some (.int (x5 + (1 : Int32))), none, none, none] [] h C S) ∧ (¬ y1 < x8 → ∃ fs6 : List Value, h x0 = some (.inr (1, fs6)) ∧ (wq_cj G l d C S mX2_at [.ref x0, .int x5, .int x8] h (fun y5 h2 C3 S4 => ∃ fs12 : List Value, h2 x0 = some (.inr (1, fs12)) ∧ (wq_cj G l d C3 S4 mX2_at [.ref x0, .int x1, .int x8] h2 (fun y11 h8 C9 S10 => wq_gJ h8 x0 [(1, 5)] (fun y14 => ¬ y14 = 0 ∧ (∃ fs19 : List Value, h8 x0 = some (.inr (1, fs19)) ∧ (wq_cw G l d C9 S10 mX2_put [.ref x0, .int x5, .int x8, .long (((y5 * x3) - (x6 * y11)) / y14)] h8 (fun h16 C17 S18 => wq_T G l d mX2_turns (wq_qv K) 42 [some (.ref x0), some (.int x1), some (.int x2), some (.long x3), none, some (.int x5), some (.long x6), none, some (.int (x8 + (1 : Int32)))] [] h16 C17 S18))))))))))) : wq_T G l d mX2_turns (wq_qv K) 42 [some (.ref x0), some (.int x1), some (.int x2), some (.long x3), none, some (.int x5), some (.long x6), none, some (.int x8)] [] h C S := by
  refine wq_iload (pc := 42) dX2_turns_42 rfl ?_
  refine wq_aload_n (pc := 44) dX2_turns_44 rfl rfl ?_
  refine gfq169 (pc := 45) rfl dX2_turns_45 V (fun y1 V => ?_)
  refine wq_icmp_gt (pc := 48) (tgt := 91) dX2_turns_48 rfl (fun c => ?_) (fun c => ?_)
  · have V := V.1 c
    refine wq_iinc (L' := [some (.ref x0), some (.int x1), some (.int x2), some (.long x3), none, some (.int (x5 + (1 : Int32))), some (.long x6), none, some (.int x8)]) (pc := 91) dX2_turns_91 rfl (by rw [gsti1]) (Nat.le_of_ble_eq_true rfl) rfl ?_
    refine wq_goto (pc := 94) (tgt := 10) dX2_turns_94 rfl ?_
    exact wq_T.less V ⟨rfl, ⟨rfl, ⟨rfl, ⟨rfl, ⟨rfl, trivial⟩⟩⟩⟩⟩
  · have V := V.2 c
    refine wq_aload_n (pc := 51) dX2_turns_51 rfl rfl ?_
    refine wq_iload (pc := 52) dX2_turns_52 rfl ?_
    refine wq_iload (pc := 54) dX2_turns_54 rfl ?_
    refine wq_aload_n (pc := 56) dX2_turns_56 rfl rfl ?_
    refine wq_iload (pc := 57) dX2_turns_57 rfl ?_
    refine wq_iload (pc := 59) dX2_turns_59 rfl ?_
    obtain ⟨fs6, w7, V⟩ := V
    refine clq1033 (pc := 61) (As := [.int x5, .int x8]) (st := [.int x8, .int x5, .ref x0]) rfl dX2_turns_61 rfl (Nat.le_of_ble_eq_true rfl) w7 V (fun C3 S4 => wx_kj (fun y5 h2 V => ?_))
    refine wq_lload_n (pc := 64) dX2_turns_64 rfl rfl ?_
    refine wq_lmul (pc := 65) dX2_turns_65 ?_
    refine wq_lload (pc := 66) dX2_turns_66 rfl ?_
    refine wq_aload_n (pc := 68) dX2_turns_68 rfl rfl ?_
    refine wq_iload_n (pc := 69) dX2_turns_69 rfl rfl ?_
    refine wq_iload (pc := 70) dX2_turns_70 rfl ?_
    obtain ⟨fs12, w13, V⟩ := V
    refine clq1033 (pc := 72) (As := [.int x1, .int x8]) (st := [.long x6, .long (y5 * x3), .int x8, .int x5, .ref x0]) rfl dX2_turns_72 rfl (Nat.le_of_ble_eq_true rfl) w13 V (fun C9 S10 => wx_kj (fun y11 h8 V => ?_))
    refine wq_lmul (pc := 75) dX2_turns_75 ?_
    refine wq_lsub (pc := 76) dX2_turns_76 ?_
    refine wq_aload_n (pc := 77) dX2_turns_77 rfl rfl ?_
    refine gfq170 (pc := 78) rfl dX2_turns_78 V (fun y14 V => ?_)
    obtain ⟨w15, V⟩ := V
    refine wq_ldiv (pc := 81) dX2_turns_81 w15 ?_
    obtain ⟨fs19, w20, V⟩ := V
    refine clq1011 (pc := 82) (As := [.int x5, .int x8, .long (((y5 * x3) - (x6 * y11)) / y14)]) (st := []) rfl dX2_turns_82 rfl (Nat.le_of_ble_eq_true rfl) w20 V (fun C17 S18 => wx_kv (fun h16 V => ?_))
    refine wq_iinc (L' := [some (.ref x0), some (.int x1), some (.int x2), some (.long x3), none, some (.int x5), some (.long x6), none, some (.int (x8 + (1 : Int32)))]) (pc := 85) dX2_turns_85 rfl (by rw [gsti1]) (Nat.le_of_ble_eq_true rfl) rfl ?_
    refine wq_goto (pc := 88) (tgt := 42) dX2_turns_88 rfl ?_
    exact wq_T.less V ⟨rfl, ⟨rfl, ⟨rfl, ⟨rfl, ⟨rfl, ⟨rfl, ⟨rfl, trivial⟩⟩⟩⟩⟩⟩⟩
theorem vX2_wants_0 {G : wq_G} {l : Launch} {d C S : Nat} {K : wq_H → Prop} {x0 : Nat} {x1 : Int32} {x2 : Int64} {h : wq_H} (V : wq_gI h x0 [(1, 2)] (fun y1 => ∃ fs5 : List Value, h x0 = some (.inr (1, fs5)) ∧ (wq_cw G l d C S mX2_put [.ref x0, .int (y1 + (1 : Int32)), .int x1, .long (-x2)] h (fun h2 C3 S4 => K h2)))) : wq_T G l d mX2_wants (wq_qv K) 0 [some (.ref x0), some (.int x1), some (.long x2), none] [] h C S := by
  refine wq_aload_n (pc := 0) dX2_wants_0 rfl rfl ?_
  refine wq_aload_n (pc := 1) dX2_wants_1 rfl rfl ?_
  refine gfq167 (pc := 2) rfl dX2_wants_2 V (fun y1 V => ?_)
  refine wq_iconst (pc := 5) dX2_wants_5 gsti1 ?_
  refine wq_iadd (pc := 6) dX2_wants_6 ?_
  refine wq_iload_n (pc := 7) dX2_wants_7 rfl rfl ?_
  refine wq_lload_n (pc := 8) dX2_wants_8 rfl rfl ?_
  refine wq_lneg (pc := 9) dX2_wants_9 ?_
  obtain ⟨fs5, w6, V⟩ := V
  refine clq1011 (pc := 10) (As := [.int (y1 + (1 : Int32)), .int x1, .long (-x2)]) (st := []) rfl dX2_wants_10 rfl (Nat.le_of_ble_eq_true rfl) w6 V (fun C3 S4 => wx_kv (fun h2 V => ?_))
  refine wq_vret (pc := 13) dX2_wants_13 rfl ⟨rfl, V⟩
theorem vX4_init_0 {G : wq_G} {l : Launch} {d C S : Nat} {K : wq_H → Prop} (hd1 : 1 ≤ d) {x0 : Nat} {x1 : Nat} {h : wq_H} (V : wq_no G h 5 [.int 0, .int 0, .int 0, .null, .null, .null, .null] 7 C S (fun a1 h2 => wq_cw G l d (C - 1) (S - 7) mX6_init [.ref a1] h2 (fun h3 C4 S5 => wq_pf G h3 x0 [(3, 1)] (.ref a1) (fun h6 => wq_no G h6 16 [.int 0, .null, .int 0] 3 C4 S5 (fun a7 h8 => wq_cw G l d (C4 - 1) (S5 - 3) mJ2_init [.ref a7] h8 (fun h9 C10 S11 => wq_pf G h9 x0 [(3, 2)] (.ref a7) (fun h12 => wq_no G h12 16 [.int 0, .null, .int 0] 3 C10 S11 (fun a13 h14 => wq_cw G l d (C10 - 1) (S11 - 3) mJ2_init [.ref a13] h14 (fun h15 C16 S17 => wq_pf G h15 x0 [(3, 3)] (.ref a13) (fun h18 => wq_pf G h18 x0 [(3, 0)] (.ref x1) (fun h19 => ∃ fs24 : List Value, h19 x1 = some (.inr (4, fs24)) ∧ (wq_cq G l d C16 S17 mX5_next [.ref x1] h19 (fun r23 h20 C21 S22 => wq_pf G h20 x0 [(3, 4)] (va_rf r23) (fun h26 => K h26)))))))))))))) : wq_T G l d mX4_init (wq_qv K) 0 [some (.ref x0), some (.ref x1)] [] h C S := by
  refine wq_aload_n (pc := 0) dX4_init_0 rfl rfl ?_
  refine wq_objInit (pc := 1) q284 q157 q158 dX4_init_1 (Nat.le_of_ble_eq_true rfl) hd1 ?_
  refine wq_aload_n (pc := 4) dX4_init_4 rfl rfl ?_
  refine nwq285 (pc := 5) rfl dX4_init_5 V (fun a1 h2 V => ?_)
  refine wq_dup (pc := 8) dX4_init_8 rfl ?_
  refine clq287 (pc := 9) (As := []) (st := [.ref a1, .ref x0]) rfl dX4_init_9 rfl (Nat.le_of_ble_eq_true rfl) V (fun C4 S5 => wx_kv (fun h3 V => ?_))
  refine pfq568 (pc := 12) rfl rfl dX4_init_12 (wq_nfr rfl (some a1)) V (fun h6 V => ?_)
  refine wq_aload_n (pc := 15) dX4_init_15 rfl rfl ?_
  refine nwq343 (pc := 16) rfl dX4_init_16 V (fun a7 h8 V => ?_)
  refine wq_dup (pc := 19) dX4_init_19 rfl ?_
  refine clq344 (pc := 20) (As := []) (st := [.ref a7, .ref x0]) rfl dX4_init_20 rfl (Nat.le_of_ble_eq_true rfl) V (fun C10 S11 => wx_kv (fun h9 V => ?_))
  refine pfq569 (pc := 23) rfl rfl dX4_init_23 (wq_nfr rfl (some a7)) V (fun h12 V => ?_)
  refine wq_aload_n (pc := 26) dX4_init_26 rfl rfl ?_
  refine nwq343 (pc := 27) rfl dX4_init_27 V (fun a13 h14 V => ?_)
  refine wq_dup (pc := 30) dX4_init_30 rfl ?_
  refine clq344 (pc := 31) (As := []) (st := [.ref a13, .ref x0]) rfl dX4_init_31 rfl (Nat.le_of_ble_eq_true rfl) V (fun C16 S17 => wx_kv (fun h15 V => ?_))
  refine pfq570 (pc := 34) rfl rfl dX4_init_34 (wq_nfr rfl (some a13)) V (fun h18 V => ?_)
  refine wq_aload_n (pc := 37) dX4_init_37 rfl rfl ?_
  refine wq_aload_n (pc := 38) dX4_init_38 rfl rfl ?_
  refine pfq567 (pc := 39) rfl rfl dX4_init_39 (wq_nfr rfl (some x1)) V (fun h19 V => ?_)
  refine wq_aload_n (pc := 42) dX4_init_42 rfl rfl ?_
  refine wq_aload_n (pc := 43) dX4_init_43 rfl rfl ?_
  obtain ⟨fs24, w25, V⟩ := V
  refine clq345 (pc := 44) (As := []) (st := [.ref x0]) rfl dX4_init_44 rfl (Nat.le_of_ble_eq_true rfl) w25 V (fun C21 S22 => wx_kq (fun r23 h20 V => ?_))
  refine pfq571 (pc := 47) rfl dX4_init_47 (wq_nfr rfl r23) V (fun h26 V => ?_)
  refine wq_vret (pc := 50) dX4_init_50 rfl ⟨rfl, V⟩
theorem vX4_read_0 {G : wq_G} {l : Launch} {d C S : Nat} {K : Option Nat → wq_H → Prop} {x0 : Nat} {h : wq_H} (V : ∃ fs4 : List Value, h x0 = some (.inr (3, fs4)) ∧ (wq_cw G l d C S mX4_line [.ref x0] h (fun h1 C2 S3 => ∃ fs10 : List Value, h1 x0 = some (.inr (3, fs10)) ∧ (wq_ci G l d C2 S3 mX4_eatsSign [.ref x0, .int (59 : Int32)] h1 (fun y9 h6 C7 S8 => (¬ y9 = 0 → wq_T G l d mX4_read (wq_qq K) 0 [some (.ref x0)] [] h6 C7 S8) ∧ (y9 = 0 → wq_gR h6 x0 [(3, 4)] (fun a12 => wq_gI h6 a12 [(7, 0)] (fun y13 => (y13 = (1 : Int32) → wq_gR h6 x0 [(3, 1)] (fun a14 => wq_gI h6 a14 [(5, 0)] (fun y15 => (y15 = 0 → ∃ fs19 : List Value, h6 x0 = some (.inr (3, fs19)) ∧ (wq_cw G l d C7 S8 mX4_wrong [.ref x0, .int (6 : Int32)] h6 (fun h16 C17 S18 => wq_T G l d mX4_read (wq_qq K) 55 [some (.ref x0)] [] h16 C17 S18))) ∧ (¬ y15 = 0 → wq_gR h6 x0 [(3, 2)] (fun a21 => ∃ fs26 : List Value, h6 a21 = some (.inr (16, fs26)) ∧ (wq_ci G l d C7 S8 mJ2_isEmpty [.ref a21] h6 (fun y25 h22 C23 S24 => (y25 = 0 → wq_T G l d mX4_read (wq_qq K) 55 [some (.ref x0)] [] h22 C23 S24) ∧ (¬ y25 = 0 → ∃ fs31 : List Value, h22 x0 = some (.inr (3, fs31)) ∧ (wq_cw G l d C23 S24 mX4_wrong [.ref x0, .int (6 : Int32)] h22 (fun h28 C29 S30 => wq_T G l d mX4_read (wq_qq K) 55 [some (.ref x0)] [] h28 C29 S30)))))))))) ∧ (¬ y13 = (1 : Int32) → ∃ fs36 : List Value, h6 x0 = some (.inr (3, fs36)) ∧ (wq_cw G l d C7 S8 mX4_wrong [.ref x0, .int (1 : Int32)] h6 (fun h33 C34 S35 => wq_gR h33 x0 [(3, 1)] (fun a38 => wq_gI h33 a38 [(5, 0)] (fun y39 => (y39 = 0 → ∃ fs43 : List Value, h33 x0 = some (.inr (3, fs43)) ∧ (wq_cw G l d C34 S35 mX4_wrong [.ref x0, .int (6 : Int32)] h33 (fun h40 C41 S42 => wq_T G l d mX4_read (wq_qq K) 55 [some (.ref x0)] [] h40 C41 S42))) ∧ (¬ y39 = 0 → wq_gR h33 x0 [(3, 2)] (fun a45 => ∃ fs50 : List Value, h33 a45 = some (.inr (16, fs50)) ∧ (wq_ci G l d C34 S35 mJ2_isEmpty [.ref a45] h33 (fun y49 h46 C47 S48 => (y49 = 0 → wq_T G l d mX4_read (wq_qq K) 55 [some (.ref x0)] [] h46 C47 S48) ∧ (¬ y49 = 0 → ∃ fs55 : List Value, h46 x0 = some (.inr (3, fs55)) ∧ (wq_cw G l d C47 S48 mX4_wrong [.ref x0, .int (6 : Int32)] h46 (fun h52 C53 S54 => wq_T G l d mX4_read (wq_qq K) 55 [some (.ref x0)] [] h52 C53 S54)))))))))))))))))))) : wq_T G l d mX4_read (wq_qq K) 0 [some (.ref x0)] [] h C S := by
  refine wq_aload_n (pc := 0) dX4_read_0 rfl rfl ?_
  obtain ⟨fs4, w5, V⟩ := V
  refine clq595 (pc := 1) (As := []) (st := []) rfl dX4_read_1 rfl (Nat.le_of_ble_eq_true rfl) w5 V (fun C2 S3 => wx_kv (fun h1 V => ?_))
  refine wq_aload_n (pc := 4) dX4_read_4 rfl rfl ?_
  refine wq_bipush (pc := 5) dX4_read_5 gstb59 ?_
  obtain ⟨fs10, w11, V⟩ := V
  refine clq793 (pc := 7) (As := [.int (59 : Int32)]) (st := []) rfl dX4_read_7 rfl (Nat.le_of_ble_eq_true rfl) w11 V (fun C7 S8 => wx_ki (fun y9 h6 V => ?_))
  refine wq_if_ne (pc := 10) (tgt := 0) dX4_read_10 rfl (fun c => ?_) (fun c => ?_)
  · have V := V.1 c
    exact wq_T.less V ⟨rfl, trivial⟩
  · have V := V.2 c
    refine wq_aload_n (pc := 13) dX4_read_13 rfl rfl ?_
    refine gfq571 (pc := 14) rfl dX4_read_14 V (fun a12 V => ?_)
    refine gfq361 (pc := 17) rfl dX4_read_17 V (fun y13 V => ?_)
    refine wq_iconst (pc := 20) dX4_read_20 gsti1 ?_
    refine wq_icmp_eq (pc := 21) (tgt := 29) dX4_read_21 rfl (fun c => ?_) (fun c => ?_)
    · have V := V.1 c
      refine wq_aload_n (pc := 29) dX4_read_29 rfl rfl ?_
      refine gfq568 (pc := 30) rfl dX4_read_30 V (fun a14 V => ?_)
      refine gfq307 (pc := 33) rfl dX4_read_33 V (fun y15 V => ?_)
      refine wq_if_eq (pc := 36) (tgt := 49) dX4_read_36 rfl (fun c => ?_) (fun c => ?_)
      · have V := V.1 c
        refine wq_aload_n (pc := 49) dX4_read_49 rfl rfl ?_
        refine wq_bipush (pc := 50) dX4_read_50 gstb6 ?_
        obtain ⟨fs19, w20, V⟩ := V
        refine clq672 (pc := 52) (As := [.int (6 : Int32)]) (st := []) rfl dX4_read_52 rfl (Nat.le_of_ble_eq_true rfl) w20 V (fun C17 S18 => wx_kv (fun h16 V => ?_))
        exact wq_T.less V ⟨rfl, trivial⟩
      · have V := V.2 c
        refine wq_aload_n (pc := 39) dX4_read_39 rfl rfl ?_
        refine gfq569 (pc := 40) rfl dX4_read_40 V (fun a21 V => ?_)
        obtain ⟨fs26, w27, V⟩ := V
        refine clq940 (pc := 43) (As := []) (st := []) rfl dX4_read_43 rfl (Nat.le_of_ble_eq_true rfl) w27 V (fun C23 S24 => wx_ki (fun y25 h22 V => ?_))
        refine wq_if_eq (pc := 46) (tgt := 55) dX4_read_46 rfl (fun c => ?_) (fun c => ?_)
        · have V := V.1 c
          exact wq_T.less V ⟨rfl, trivial⟩
        · have V := V.2 c
          refine wq_aload_n (pc := 49) dX4_read_49 rfl rfl ?_
          refine wq_bipush (pc := 50) dX4_read_50 gstb6 ?_
          obtain ⟨fs31, w32, V⟩ := V
          refine clq672 (pc := 52) (As := [.int (6 : Int32)]) (st := []) rfl dX4_read_52 rfl (Nat.le_of_ble_eq_true rfl) w32 V (fun C29 S30 => wx_kv (fun h28 V => ?_))
          exact wq_T.less V ⟨rfl, trivial⟩
    · have V := V.2 c
      refine wq_aload_n (pc := 24) dX4_read_24 rfl rfl ?_
      refine wq_iconst (pc := 25) dX4_read_25 gsti1 ?_
      obtain ⟨fs36, w37, V⟩ := V
      refine clq672 (pc := 26) (As := [.int (1 : Int32)]) (st := []) rfl dX4_read_26 rfl (Nat.le_of_ble_eq_true rfl) w37 V (fun C34 S35 => wx_kv (fun h33 V => ?_))
      refine wq_aload_n (pc := 29) dX4_read_29 rfl rfl ?_
      refine gfq568 (pc := 30) rfl dX4_read_30 V (fun a38 V => ?_)
      refine gfq307 (pc := 33) rfl dX4_read_33 V (fun y39 V => ?_)
      refine wq_if_eq (pc := 36) (tgt := 49) dX4_read_36 rfl (fun c => ?_) (fun c => ?_)
      · have V := V.1 c
        refine wq_aload_n (pc := 49) dX4_read_49 rfl rfl ?_
        refine wq_bipush (pc := 50) dX4_read_50 gstb6 ?_
        obtain ⟨fs43, w44, V⟩ := V
        refine clq672 (pc := 52) (As := [.int (6 : Int32)]) (st := []) rfl dX4_read_52 rfl (Nat.le_of_ble_eq_true rfl) w44 V (fun C41 S42 => wx_kv (fun h40 V => ?_))
        exact wq_T.less V ⟨rfl, trivial⟩
      · have V := V.2 c
        refine wq_aload_n (pc := 39) dX4_read_39 rfl rfl ?_
        refine gfq569 (pc := 40) rfl dX4_read_40 V (fun a45 V => ?_)
        obtain ⟨fs50, w51, V⟩ := V
        refine clq940 (pc := 43) (As := []) (st := []) rfl dX4_read_43 rfl (Nat.le_of_ble_eq_true rfl) w51 V (fun C47 S48 => wx_ki (fun y49 h46 V => ?_))
        refine wq_if_eq (pc := 46) (tgt := 55) dX4_read_46 rfl (fun c => ?_) (fun c => ?_)
        · have V := V.1 c
          exact wq_T.less V ⟨rfl, trivial⟩
        · have V := V.2 c
          refine wq_aload_n (pc := 49) dX4_read_49 rfl rfl ?_
          refine wq_bipush (pc := 50) dX4_read_50 gstb6 ?_
          obtain ⟨fs55, w56, V⟩ := V
          refine clq672 (pc := 52) (As := [.int (6 : Int32)]) (st := []) rfl dX4_read_52 rfl (Nat.le_of_ble_eq_true rfl) w56 V (fun C53 S54 => wx_kv (fun h52 V => ?_))
          exact wq_T.less V ⟨rfl, trivial⟩
theorem vX4_read_55 {G : wq_G} {l : Launch} {d C S : Nat} {K : Option Nat → wq_H → Prop} {x0 : Nat} {h : wq_H} (V : wq_gR h x0 [(3, 1)] (fun a1 => wq_gR h x0 [(3, 2)] (fun a2 => ∃ fs7 : List Value, h a2 = some (.inr (16, fs7)) ∧ (wq_ci G l d C S mJ2_size [.ref a2] h (fun y6 h3 C4 S5 => wq_pf G h3 a1 [(5, 1)] (.int y6) (fun h9 => wq_gR h9 x0 [(3, 1)] (fun a10 => wq_gR h9 x0 [(3, 3)] (fun a11 => ∃ fs16 : List Value, h9 a11 = some (.inr (16, fs16)) ∧ (wq_ci G l d C4 S5 mJ2_size [.ref a11] h9 (fun y15 h12 C13 S14 => wq_pf G h12 a10 [(5, 2)] (.int y15) (fun h18 => ∃ fs23 : List Value, h18 x0 = some (.inr (3, fs23)) ∧ (wq_ci G l d C13 S14 mX4_isOver [.ref x0] h18 (fun y22 h19 C20 S21 => (y22 = 0 → wq_gR h19 x0 [(3, 1)] (fun a25 => K (some a25) h19)) ∧ (¬ y22 = 0 → K none h19)))))))))))))) : wq_T G l d mX4_read (wq_qq K) 55 [some (.ref x0)] [] h C S := by
  refine wq_aload_n (pc := 55) dX4_read_55 rfl rfl ?_
  refine gfq568 (pc := 56) rfl dX4_read_56 V (fun a1 V => ?_)
  refine wq_aload_n (pc := 59) dX4_read_59 rfl rfl ?_
  refine gfq569 (pc := 60) rfl dX4_read_60 V (fun a2 V => ?_)
  obtain ⟨fs7, w8, V⟩ := V
  refine clq722 (pc := 63) (As := []) (st := [.ref a1]) rfl dX4_read_63 rfl (Nat.le_of_ble_eq_true rfl) w8 V (fun C4 S5 => wx_ki (fun y6 h3 V => ?_))
  refine pfq311 (pc := 66) rfl dX4_read_66 ⟨rfl, rfl⟩ V (fun h9 V => ?_)
  refine wq_aload_n (pc := 69) dX4_read_69 rfl rfl ?_
  refine gfq568 (pc := 70) rfl dX4_read_70 V (fun a10 V => ?_)
  refine wq_aload_n (pc := 73) dX4_read_73 rfl rfl ?_
  refine gfq570 (pc := 74) rfl dX4_read_74 V (fun a11 V => ?_)
  obtain ⟨fs16, w17, V⟩ := V
  refine clq722 (pc := 77) (As := []) (st := [.ref a10]) rfl dX4_read_77 rfl (Nat.le_of_ble_eq_true rfl) w17 V (fun C13 S14 => wx_ki (fun y15 h12 V => ?_))
  refine pfq313 (pc := 80) rfl dX4_read_80 ⟨rfl, rfl⟩ V (fun h18 V => ?_)
  refine wq_aload_n (pc := 83) dX4_read_83 rfl rfl ?_
  obtain ⟨fs23, w24, V⟩ := V
  refine clq676 (pc := 84) (As := []) (st := []) rfl dX4_read_84 rfl (Nat.le_of_ble_eq_true rfl) w24 V (fun C20 S21 => wx_ki (fun y22 h19 V => ?_))
  refine wq_if_eq (pc := 87) (tgt := 94) dX4_read_87 rfl (fun c => ?_) (fun c => ?_)
  · have V := V.1 c
    refine wq_aload_n (pc := 94) dX4_read_94 rfl rfl ?_
    refine gfq568 (pc := 95) rfl dX4_read_95 V (fun a25 V => ?_)
    refine wq_aret (r := (some a25)) (pc := 98) dX4_read_98 rfl rfl ⟨_, rfl, V⟩
  · have V := V.2 c
    refine wq_aconst (pc := 90) dX4_read_90 ?_
    refine wq_goto (pc := 91) (tgt := 98) dX4_read_91 rfl ?_
    refine wq_aret (r := none) (pc := 98) dX4_read_98 rfl rfl ⟨_, rfl, V⟩
theorem vX4_line_0 {G : wq_G} {l : Launch} {d C S : Nat} {K : wq_H → Prop} {x0 : Nat} {h : wq_H} (V : wq_gR h x0 [(3, 4)] (fun a1 => wq_gI h a1 [(7, 0)] (fun y2 => (¬ y2 = (2 : Int32) → ∃ fs7 : List Value, h (G.2.2.2.2 10) = some (.inr (18, fs7)) ∧ (wq_ci G l d C S mJ5_hashCode [.ref (G.2.2.2.2 10)] h (fun y6 h3 C4 S5 => (y6.toInt = 106914 → ∃ fs13 : List Value, h3 (G.2.2.2.2 10) = some (.inr (18, fs13)) ∧ (wq_ci G l d C4 S5 mJ5_equals [.ref (G.2.2.2.2 10), .ref (G.2.2.2.2 13)] h3 (fun y12 h9 C10 S11 => (y12 = 0 → wq_T G l d mX4_line (wq_qv K) 192 [some (.ref x0), none, some (.int (-1 : Int32))] [] h9 C10 S11) ∧ (¬ y12 = 0 → wq_T G l d mX4_line (wq_qv K) 192 [some (.ref x0), none, some (.int (0 : Int32))] [] h9 C10 S11)))) ∧ (y6.toInt = 112682 → ∃ fs19 : List Value, h3 (G.2.2.2.2 10) = some (.inr (18, fs19)) ∧ (wq_ci G l d C4 S5 mJ5_equals [.ref (G.2.2.2.2 10), .ref (G.2.2.2.2 19)] h3 (fun y18 h15 C16 S17 => (y18 = 0 → wq_T G l d mX4_line (wq_qv K) 192 [some (.ref x0), none, some (.int (-1 : Int32))] [] h15 C16 S17) ∧ (¬ y18 = 0 → wq_T G l d mX4_line (wq_qv K) 192 [some (.ref x0), none, some (.int (5 : Int32))] [] h15 C16 S17)))) ∧ (y6.toInt = 113291 → ∃ fs25 : List Value, h3 (G.2.2.2.2 10) = some (.inr (18, fs25)) ∧ (wq_ci G l d C4 S5 mJ5_equals [.ref (G.2.2.2.2 10), .ref (G.2.2.2.2 20)] h3 (fun y24 h21 C22 S23 => (y24 = 0 → wq_T G l d mX4_line (wq_qv K) 192 [some (.ref x0), none, some (.int (-1 : Int32))] [] h21 C22 S23) ∧ (¬ y24 = 0 → wq_T G l d mX4_line (wq_qv K) 192 [some (.ref x0), none, some (.int (6 : Int32))] [] h21 C22 S23)))) ∧ (y6.toInt = 113762 → ∃ fs31 : List Value, h3 (G.2.2.2.2 10) = some (.inr (18, fs31)) ∧ (wq_ci G l d C4 S5 mJ5_equals [.ref (G.2.2.2.2 10), .ref (G.2.2.2.2 21)] h3 (fun y30 h27 C28 S29 => (y30 = 0 → wq_T G l d mX4_line (wq_qv K) 192 [some (.ref x0), none, some (.int (-1 : Int32))] [] h27 C28 S29) ∧ (¬ y30 = 0 → wq_T G l d mX4_line (wq_qv K) 192 [some (.ref x0), none, some (.int (3 : Int32))] [] h27 C28 S29)))) ∧ (y6.toInt = 3321844 → ∃ fs37 : List Value, h3 (G.2.2.2.2 10) = some (.inr (18, fs37)) ∧ (wq_ci G l d C4 S5 mJ5_equals [.ref (G.2.2.2.2 10), .ref (G.2.2.2.2 14)] h3 (fun y36 h33 C34 S35 => (y36 = 0 → wq_T G l d mX4_line (wq_qv K) 192 [some (.ref x0), none, some (.int (-1 : Int32))] [] h33 C34 S35) ∧ (¬ y36 = 0 → wq_T G l d mX4_line (wq_qv K) 192 [some (.ref x0), none, some (.int (4 : Int32))] [] h33 C34 S35)))) ∧ (y6.toInt = 3327647 → ∃ fs43 : List Value, h3 (G.2.2.2.2 10) = some (.inr (18, fs43)) ∧ (wq_ci G l d C4 S5 mJ5_equals [.ref (G.2.2.2.2 10), .ref (G.2.2.2.2 15)] h3 (fun y42 h39 C40 S41 => (y42 = 0 → wq_T G l d mX4_line (wq_qv K) 192 [some (.ref x0), none, some (.int (-1 : Int32))] [] h39 C40 S41) ∧ (¬ y42 = 0 → wq_T G l d mX4_line (wq_qv K) 192 [some (.ref x0), none, some (.int (1 : Int32))] [] h39 C40 S41)))) ∧ (y6.toInt = 106845584 → ∃ fs49 : List Value, h3 (G.2.2.2.2 10) = some (.inr (18, fs49)) ∧ (wq_ci G l d C4 S5 mJ5_equals [.ref (G.2.2.2.2 10), .ref (G.2.2.2.2 18)] h3 (fun y48 h45 C46 S47 => (y48 = 0 → wq_T G l d mX4_line (wq_qv K) 192 [some (.ref x0), none, some (.int (-1 : Int32))] [] h45 C46 S47) ∧ (¬ y48 = 0 → wq_T G l d mX4_line (wq_qv K) 192 [some (.ref x0), none, some (.int (2 : Int32))] [] h45 C46 S47)))) ∧ (¬ y6.toInt = 106914 ∧ ¬ y6.toInt = 112682 ∧ ¬ y6.toInt = 113291 ∧ ¬ y6.toInt = 113762 ∧ ¬ y6.toInt = 3321844 ∧ ¬ y6.toInt = 3327647 ∧ ¬ y6.toInt = 106845584 → wq_T G l d mX4_line (wq_qv K) 192 [some (.ref x0), none, some (.int (-1 : Int32))] [] h3 C4 S5)))) ∧ (y2 = (2 : Int32) → wq_gR h x0 [(3, 4)] (fun a51 => wq_gR h a51 [(7, 3)] (fun a52 => ∃ fs57 : List Value, h a52 = some (.inr (18, fs57)) ∧ (wq_ci G l d C S mJ5_hashCode [.ref a52] h (fun y56 h53 C54 S55 => (y56.toInt = 106914 → ∃ fs63 : List Value, h53 a52 = some (.inr (18, fs63)) ∧ (wq_ci G l d C54 S55 mJ5_equals [.ref a52, .ref (G.2.2.2.2 13)] h53 (fun y62 h59 C60 S61 => (y62 = 0 → wq_T G l d mX4_line (wq_qv K) 192 [some (.ref x0), none, some (.int (-1 : Int32))] [] h59 C60 S61) ∧ (¬ y62 = 0 → wq_T G l d mX4_line (wq_qv K) 192 [some (.ref x0), none, some (.int (0 : Int32))] [] h59 C60 S61)))) ∧ (y56.toInt = 112682 → ∃ fs69 : List Value, h53 a52 = some (.inr (18, fs69)) ∧ (wq_ci G l d C54 S55 mJ5_equals [.ref a52, .ref (G.2.2.2.2 19)] h53 (fun y68 h65 C66 S67 => (y68 = 0 → wq_T G l d mX4_line (wq_qv K) 192 [some (.ref x0), none, some (.int (-1 : Int32))] [] h65 C66 S67) ∧ (¬ y68 = 0 → wq_T G l d mX4_line (wq_qv K) 192 [some (.ref x0), none, some (.int (5 : Int32))] [] h65 C66 S67)))) ∧ (y56.toInt = 113291 → ∃ fs75 : List Value, h53 a52 = some (.inr (18, fs75)) ∧ (wq_ci G l d C54 S55 mJ5_equals [.ref a52, .ref (G.2.2.2.2 20)] h53 (fun y74 h71 C72 S73 => (y74 = 0 → wq_T G l d mX4_line (wq_qv K) 192 [some (.ref x0), none, some (.int (-1 : Int32))] [] h71 C72 S73) ∧ (¬ y74 = 0 → wq_T G l d mX4_line (wq_qv K) 192 [some (.ref x0), none, some (.int (6 : Int32))] [] h71 C72 S73)))) ∧ (y56.toInt = 113762 → ∃ fs81 : List Value, h53 a52 = some (.inr (18, fs81)) ∧ (wq_ci G l d C54 S55 mJ5_equals [.ref a52, .ref (G.2.2.2.2 21)] h53 (fun y80 h77 C78 S79 => (y80 = 0 → wq_T G l d mX4_line (wq_qv K) 192 [some (.ref x0), none, some (.int (-1 : Int32))] [] h77 C78 S79) ∧ (¬ y80 = 0 → wq_T G l d mX4_line (wq_qv K) 192 [some (.ref x0), none, some (.int (3 : Int32))] [] h77 C78 S79)))) ∧ (y56.toInt = 3321844 → ∃ fs87 : List Value, h53 a52 = some (.inr (18, fs87)) ∧ (wq_ci G l d C54 S55 mJ5_equals [.ref a52, .ref (G.2.2.2.2 14)] h53 (fun y86 h83 C84 S85 => (y86 = 0 → wq_T G l d mX4_line (wq_qv K) 192 [some (.ref x0), none, some (.int (-1 : Int32))] [] h83 C84 S85) ∧ (¬ y86 = 0 → wq_T G l d mX4_line (wq_qv K) 192 [some (.ref x0), none, some (.int (4 : Int32))] [] h83 C84 S85)))) ∧ (y56.toInt = 3327647 → ∃ fs93 : List Value, h53 a52 = some (.inr (18, fs93)) ∧ (wq_ci G l d C54 S55 mJ5_equals [.ref a52, .ref (G.2.2.2.2 15)] h53 (fun y92 h89 C90 S91 => (y92 = 0 → wq_T G l d mX4_line (wq_qv K) 192 [some (.ref x0), none, some (.int (-1 : Int32))] [] h89 C90 S91) ∧ (¬ y92 = 0 → wq_T G l d mX4_line (wq_qv K) 192 [some (.ref x0), none, some (.int (1 : Int32))] [] h89 C90 S91)))) ∧ (y56.toInt = 106845584 → ∃ fs99 : List Value, h53 a52 = some (.inr (18, fs99)) ∧ (wq_ci G l d C54 S55 mJ5_equals [.ref a52, .ref (G.2.2.2.2 18)] h53 (fun y98 h95 C96 S97 => (y98 = 0 → wq_T G l d mX4_line (wq_qv K) 192 [some (.ref x0), none, some (.int (-1 : Int32))] [] h95 C96 S97) ∧ (¬ y98 = 0 → wq_T G l d mX4_line (wq_qv K) 192 [some (.ref x0), none, some (.int (2 : Int32))] [] h95 C96 S97)))) ∧ (¬ y56.toInt = 106914 ∧ ¬ y56.toInt = 112682 ∧ ¬ y56.toInt = 113291 ∧ ¬ y56.toInt = 113762 ∧ ¬ y56.toInt = 3321844 ∧ ¬ y56.toInt = 3327647 ∧ ¬ y56.toInt = 106845584 → wq_T G l d mX4_line (wq_qv K) 192 [some (.ref x0), none, some (.int (-1 : Int32))] [] h53 C54 S55))))))))) : wq_T G l d mX4_line (wq_qv K) 0 [some (.ref x0), none, none] [] h C S := by
  refine wq_aload_n (pc := 0) dX4_line_0 rfl rfl ?_
  refine gfq571 (pc := 1) rfl dX4_line_1 V (fun a1 V => ?_)
  refine gfq361 (pc := 4) rfl dX4_line_4 V (fun y2 V => ?_)
  refine wq_iconst (pc := 7) dX4_line_7 gsti2 ?_
  refine wq_icmp_ne (pc := 8) (tgt := 21) dX4_line_8 rfl (fun c => ?_) (fun c => ?_)
  · have V := V.1 c
    refine wq_ldcS (a := G.2.2.2.2 10) (pc := 21) (gstr_X4_134 G) dX4_line_21 ?_
    refine wq_astore_n (L' := [some (.ref x0), some (.ref (G.2.2.2.2 10)), none]) (pc := 23) dX4_line_23 rfl (Nat.le_of_ble_eq_true rfl) rfl ?_
    refine wq_iconst (pc := 24) dX4_line_24 gstim1 ?_
    refine wq_istore_n (L' := [some (.ref x0), some (.ref (G.2.2.2.2 10)), some (.int (-1 : Int32))]) (pc := 25) dX4_line_25 rfl (Nat.le_of_ble_eq_true rfl) rfl ?_
    refine wq_aload_n (pc := 26) dX4_line_26 rfl rfl ?_
    obtain ⟨fs7, w8, V⟩ := V
    refine clq600 (pc := 27) (As := []) (st := []) rfl dX4_line_27 rfl (Nat.le_of_ble_eq_true rfl) w8 V (fun C4 S5 => wx_ki (fun y6 h3 V => ?_))
    by_cases c0 : y6.toInt = 106914
    · refine wq_lookup (pc := 30) (off := 66) (tgt := 96) dX4_line_30 (by decide) (by rw [c0]; decide) rfl ?_
      have V := V.1 c0
      refine wq_aload_n (pc := 96) dX4_line_96 rfl rfl ?_
      refine wq_ldcS (a := G.2.2.2.2 13) (pc := 97) (gstr_X4_139 G) dX4_line_97 ?_
      obtain ⟨fs13, w14, V⟩ := V
      refine clq654 (pc := 99) (As := [.ref (G.2.2.2.2 13)]) (st := []) rfl dX4_line_99 rfl (Nat.le_of_ble_eq_true rfl) w14 V (fun C10 S11 => wx_ki (fun y12 h9 V => ?_))
      refine wq_if_eq (pc := 102) (tgt := 192) dX4_line_102 rfl (fun c => ?_) (fun c => ?_)
      · have V := V.1 c
        exact wq_T.less V ⟨rfl, ⟨rfl, trivial⟩⟩
      · have V := V.2 c
        refine wq_iconst (pc := 105) dX4_line_105 gsti0 ?_
        refine wq_istore_n (L' := [some (.ref x0), some (.ref (G.2.2.2.2 10)), some (.int (0 : Int32))]) (pc := 106) dX4_line_106 rfl (Nat.le_of_ble_eq_true rfl) rfl ?_
        refine wq_goto (pc := 107) (tgt := 192) dX4_line_107 rfl ?_
        exact wq_T.less V ⟨rfl, ⟨rfl, trivial⟩⟩
    by_cases c1 : y6.toInt = 112682
    · refine wq_lookup (pc := 30) (off := 136) (tgt := 166) dX4_line_30 (by decide) (by rw [c1]; decide) rfl ?_
      have V := V.2.1 c1
      refine wq_aload_n (pc := 166) dX4_line_166 rfl rfl ?_
      refine wq_ldcS (a := G.2.2.2.2 19) (pc := 167) (gstr_X4_148 G) dX4_line_167 ?_
      obtain ⟨fs19, w20, V⟩ := V
      refine clq654 (pc := 169) (As := [.ref (G.2.2.2.2 19)]) (st := []) rfl dX4_line_169 rfl (Nat.le_of_ble_eq_true rfl) w20 V (fun C16 S17 => wx_ki (fun y18 h15 V => ?_))
      refine wq_if_eq (pc := 172) (tgt := 192) dX4_line_172 rfl (fun c => ?_) (fun c => ?_)
      · have V := V.1 c
        exact wq_T.less V ⟨rfl, ⟨rfl, trivial⟩⟩
      · have V := V.2 c
        refine wq_iconst (pc := 175) dX4_line_175 gsti5 ?_
        refine wq_istore_n (L' := [some (.ref x0), some (.ref (G.2.2.2.2 10)), some (.int (5 : Int32))]) (pc := 176) dX4_line_176 rfl (Nat.le_of_ble_eq_true rfl) rfl ?_
        refine wq_goto (pc := 177) (tgt := 192) dX4_line_177 rfl ?_
        exact wq_T.less V ⟨rfl, ⟨rfl, trivial⟩⟩
    by_cases c2 : y6.toInt = 113291
    · refine wq_lookup (pc := 30) (off := 150) (tgt := 180) dX4_line_30 (by decide) (by rw [c2]; decide) rfl ?_
      have V := V.2.2.1 c2
      refine wq_aload_n (pc := 180) dX4_line_180 rfl rfl ?_
      refine wq_ldcS (a := G.2.2.2.2 20) (pc := 181) (gstr_X4_150 G) dX4_line_181 ?_
      obtain ⟨fs25, w26, V⟩ := V
      refine clq654 (pc := 183) (As := [.ref (G.2.2.2.2 20)]) (st := []) rfl dX4_line_183 rfl (Nat.le_of_ble_eq_true rfl) w26 V (fun C22 S23 => wx_ki (fun y24 h21 V => ?_))
      refine wq_if_eq (pc := 186) (tgt := 192) dX4_line_186 rfl (fun c => ?_) (fun c => ?_)
      · have V := V.1 c
        exact wq_T.less V ⟨rfl, ⟨rfl, trivial⟩⟩
      · have V := V.2 c
        refine wq_bipush (pc := 189) dX4_line_189 gstb6 ?_
        refine wq_istore_n (L' := [some (.ref x0), some (.ref (G.2.2.2.2 10)), some (.int (6 : Int32))]) (pc := 191) dX4_line_191 rfl (Nat.le_of_ble_eq_true rfl) rfl ?_
        exact wq_T.less V ⟨rfl, ⟨rfl, trivial⟩⟩
    by_cases c3 : y6.toInt = 113762
    · refine wq_lookup (pc := 30) (off := 108) (tgt := 138) dX4_line_30 (by decide) (by rw [c3]; decide) rfl ?_
      have V := V.2.2.2.1 c3
      refine wq_aload_n (pc := 138) dX4_line_138 rfl rfl ?_
      refine wq_ldcS (a := G.2.2.2.2 21) (pc := 139) (gstr_X4_145 G) dX4_line_139 ?_
      obtain ⟨fs31, w32, V⟩ := V
      refine clq654 (pc := 141) (As := [.ref (G.2.2.2.2 21)]) (st := []) rfl dX4_line_141 rfl (Nat.le_of_ble_eq_true rfl) w32 V (fun C28 S29 => wx_ki (fun y30 h27 V => ?_))
      refine wq_if_eq (pc := 144) (tgt := 192) dX4_line_144 rfl (fun c => ?_) (fun c => ?_)
      · have V := V.1 c
        exact wq_T.less V ⟨rfl, ⟨rfl, trivial⟩⟩
      · have V := V.2 c
        refine wq_iconst (pc := 147) dX4_line_147 gsti3 ?_
        refine wq_istore_n (L' := [some (.ref x0), some (.ref (G.2.2.2.2 10)), some (.int (3 : Int32))]) (pc := 148) dX4_line_148 rfl (Nat.le_of_ble_eq_true rfl) rfl ?_
        refine wq_goto (pc := 149) (tgt := 192) dX4_line_149 rfl ?_
        exact wq_T.less V ⟨rfl, ⟨rfl, trivial⟩⟩
    by_cases c4 : y6.toInt = 3321844
    · refine wq_lookup (pc := 30) (off := 122) (tgt := 152) dX4_line_30 (by decide) (by rw [c4]; decide) rfl ?_
      have V := V.2.2.2.2.1 c4
      refine wq_aload_n (pc := 152) dX4_line_152 rfl rfl ?_
      refine wq_ldcS (a := G.2.2.2.2 14) (pc := 153) (gstr_X4_147 G) dX4_line_153 ?_
      obtain ⟨fs37, w38, V⟩ := V
      refine clq654 (pc := 155) (As := [.ref (G.2.2.2.2 14)]) (st := []) rfl dX4_line_155 rfl (Nat.le_of_ble_eq_true rfl) w38 V (fun C34 S35 => wx_ki (fun y36 h33 V => ?_))
      refine wq_if_eq (pc := 158) (tgt := 192) dX4_line_158 rfl (fun c => ?_) (fun c => ?_)
      · have V := V.1 c
        exact wq_T.less V ⟨rfl, ⟨rfl, trivial⟩⟩
      · have V := V.2 c
        refine wq_iconst (pc := 161) dX4_line_161 gsti4 ?_
        refine wq_istore_n (L' := [some (.ref x0), some (.ref (G.2.2.2.2 10)), some (.int (4 : Int32))]) (pc := 162) dX4_line_162 rfl (Nat.le_of_ble_eq_true rfl) rfl ?_
        refine wq_goto (pc := 163) (tgt := 192) dX4_line_163 rfl ?_
        exact wq_T.less V ⟨rfl, ⟨rfl, trivial⟩⟩
    by_cases c5 : y6.toInt = 3327647
    · refine wq_lookup (pc := 30) (off := 80) (tgt := 110) dX4_line_30 (by decide) (by rw [c5]; decide) rfl ?_
      have V := V.2.2.2.2.2.1 c5
      refine wq_aload_n (pc := 110) dX4_line_110 rfl rfl ?_
      refine wq_ldcS (a := G.2.2.2.2 15) (pc := 111) (gstr_X4_141 G) dX4_line_111 ?_
      obtain ⟨fs43, w44, V⟩ := V
      refine clq654 (pc := 113) (As := [.ref (G.2.2.2.2 15)]) (st := []) rfl dX4_line_113 rfl (Nat.le_of_ble_eq_true rfl) w44 V (fun C40 S41 => wx_ki (fun y42 h39 V => ?_))
      refine wq_if_eq (pc := 116) (tgt := 192) dX4_line_116 rfl (fun c => ?_) (fun c => ?_)
      · have V := V.1 c
        exact wq_T.less V ⟨rfl, ⟨rfl, trivial⟩⟩
      · have V := V.2 c
        refine wq_iconst (pc := 119) dX4_line_119 gsti1 ?_
        refine wq_istore_n (L' := [some (.ref x0), some (.ref (G.2.2.2.2 10)), some (.int (1 : Int32))]) (pc := 120) dX4_line_120 rfl (Nat.le_of_ble_eq_true rfl) rfl ?_
        refine wq_goto (pc := 121) (tgt := 192) dX4_line_121 rfl ?_
        exact wq_T.less V ⟨rfl, ⟨rfl, trivial⟩⟩
    by_cases c6 : y6.toInt = 106845584
    · refine wq_lookup (pc := 30) (off := 94) (tgt := 124) dX4_line_30 (by decide) (by rw [c6]; decide) rfl ?_
      have V := V.2.2.2.2.2.2.1 c6
      refine wq_aload_n (pc := 124) dX4_line_124 rfl rfl ?_
      refine wq_ldcS (a := G.2.2.2.2 18) (pc := 125) (gstr_X4_143 G) dX4_line_125 ?_
      obtain ⟨fs49, w50, V⟩ := V
      refine clq654 (pc := 127) (As := [.ref (G.2.2.2.2 18)]) (st := []) rfl dX4_line_127 rfl (Nat.le_of_ble_eq_true rfl) w50 V (fun C46 S47 => wx_ki (fun y48 h45 V => ?_))
      refine wq_if_eq (pc := 130) (tgt := 192) dX4_line_130 rfl (fun c => ?_) (fun c => ?_)
      · have V := V.1 c
        exact wq_T.less V ⟨rfl, ⟨rfl, trivial⟩⟩
      · have V := V.2 c
        refine wq_iconst (pc := 133) dX4_line_133 gsti2 ?_
        refine wq_istore_n (L' := [some (.ref x0), some (.ref (G.2.2.2.2 10)), some (.int (2 : Int32))]) (pc := 134) dX4_line_134 rfl (Nat.le_of_ble_eq_true rfl) rfl ?_
        refine wq_goto (pc := 135) (tgt := 192) dX4_line_135 rfl ?_
        exact wq_T.less V ⟨rfl, ⟨rfl, trivial⟩⟩
    refine wq_lookup (pc := 30) (off := 162) (tgt := 192) dX4_line_30 (by decide) (by simp [Op.lookupswitch.offset, Ne.symm c0, Ne.symm c1, Ne.symm c2, Ne.symm c3, Ne.symm c4, Ne.symm c5, Ne.symm c6]) rfl ?_
    have V := V.2.2.2.2.2.2.2 ⟨c0, c1, c2, c3, c4, c5, c6⟩
    exact wq_T.less V ⟨rfl, ⟨rfl, trivial⟩⟩
  · have V := V.2 c
    refine wq_aload_n (pc := 11) dX4_line_11 rfl rfl ?_
    refine gfq571 (pc := 12) rfl dX4_line_12 V (fun a51 V => ?_)
    refine gfq367 (pc := 15) rfl dX4_line_15 V (fun a52 V => ?_)
    refine wq_goto (pc := 18) (tgt := 23) dX4_line_18 rfl ?_
    refine wq_astore_n (L' := [some (.ref x0), some (.ref a52), none]) (pc := 23) dX4_line_23 rfl (Nat.le_of_ble_eq_true rfl) rfl ?_
    refine wq_iconst (pc := 24) dX4_line_24 gstim1 ?_
    refine wq_istore_n (L' := [some (.ref x0), some (.ref a52), some (.int (-1 : Int32))]) (pc := 25) dX4_line_25 rfl (Nat.le_of_ble_eq_true rfl) rfl ?_
    refine wq_aload_n (pc := 26) dX4_line_26 rfl rfl ?_
    obtain ⟨fs57, w58, V⟩ := V
    refine clq600 (pc := 27) (As := []) (st := []) rfl dX4_line_27 rfl (Nat.le_of_ble_eq_true rfl) w58 V (fun C54 S55 => wx_ki (fun y56 h53 V => ?_))
    by_cases c0 : y56.toInt = 106914
    · refine wq_lookup (pc := 30) (off := 66) (tgt := 96) dX4_line_30 (by decide) (by rw [c0]; decide) rfl ?_
      have V := V.1 c0
      refine wq_aload_n (pc := 96) dX4_line_96 rfl rfl ?_
      refine wq_ldcS (a := G.2.2.2.2 13) (pc := 97) (gstr_X4_139 G) dX4_line_97 ?_
      obtain ⟨fs63, w64, V⟩ := V
      refine clq654 (pc := 99) (As := [.ref (G.2.2.2.2 13)]) (st := []) rfl dX4_line_99 rfl (Nat.le_of_ble_eq_true rfl) w64 V (fun C60 S61 => wx_ki (fun y62 h59 V => ?_))
      refine wq_if_eq (pc := 102) (tgt := 192) dX4_line_102 rfl (fun c => ?_) (fun c => ?_)
      · have V := V.1 c
        exact wq_T.less V ⟨rfl, ⟨rfl, trivial⟩⟩
      · have V := V.2 c
        refine wq_iconst (pc := 105) dX4_line_105 gsti0 ?_
        refine wq_istore_n (L' := [some (.ref x0), some (.ref a52), some (.int (0 : Int32))]) (pc := 106) dX4_line_106 rfl (Nat.le_of_ble_eq_true rfl) rfl ?_
        refine wq_goto (pc := 107) (tgt := 192) dX4_line_107 rfl ?_
        exact wq_T.less V ⟨rfl, ⟨rfl, trivial⟩⟩
    by_cases c1 : y56.toInt = 112682
    · refine wq_lookup (pc := 30) (off := 136) (tgt := 166) dX4_line_30 (by decide) (by rw [c1]; decide) rfl ?_
      have V := V.2.1 c1
      refine wq_aload_n (pc := 166) dX4_line_166 rfl rfl ?_
      refine wq_ldcS (a := G.2.2.2.2 19) (pc := 167) (gstr_X4_148 G) dX4_line_167 ?_
      obtain ⟨fs69, w70, V⟩ := V
      refine clq654 (pc := 169) (As := [.ref (G.2.2.2.2 19)]) (st := []) rfl dX4_line_169 rfl (Nat.le_of_ble_eq_true rfl) w70 V (fun C66 S67 => wx_ki (fun y68 h65 V => ?_))
      refine wq_if_eq (pc := 172) (tgt := 192) dX4_line_172 rfl (fun c => ?_) (fun c => ?_)
      · have V := V.1 c
        exact wq_T.less V ⟨rfl, ⟨rfl, trivial⟩⟩
      · have V := V.2 c
        refine wq_iconst (pc := 175) dX4_line_175 gsti5 ?_
        refine wq_istore_n (L' := [some (.ref x0), some (.ref a52), some (.int (5 : Int32))]) (pc := 176) dX4_line_176 rfl (Nat.le_of_ble_eq_true rfl) rfl ?_
        refine wq_goto (pc := 177) (tgt := 192) dX4_line_177 rfl ?_
        exact wq_T.less V ⟨rfl, ⟨rfl, trivial⟩⟩
    by_cases c2 : y56.toInt = 113291
    · refine wq_lookup (pc := 30) (off := 150) (tgt := 180) dX4_line_30 (by decide) (by rw [c2]; decide) rfl ?_
      have V := V.2.2.1 c2
      refine wq_aload_n (pc := 180) dX4_line_180 rfl rfl ?_
      refine wq_ldcS (a := G.2.2.2.2 20) (pc := 181) (gstr_X4_150 G) dX4_line_181 ?_
      obtain ⟨fs75, w76, V⟩ := V
      refine clq654 (pc := 183) (As := [.ref (G.2.2.2.2 20)]) (st := []) rfl dX4_line_183 rfl (Nat.le_of_ble_eq_true rfl) w76 V (fun C72 S73 => wx_ki (fun y74 h71 V => ?_))
      refine wq_if_eq (pc := 186) (tgt := 192) dX4_line_186 rfl (fun c => ?_) (fun c => ?_)
      · have V := V.1 c
        exact wq_T.less V ⟨rfl, ⟨rfl, trivial⟩⟩
      · have V := V.2 c
        refine wq_bipush (pc := 189) dX4_line_189 gstb6 ?_
        refine wq_istore_n (L' := [some (.ref x0), some (.ref a52), some (.int (6 : Int32))]) (pc := 191) dX4_line_191 rfl (Nat.le_of_ble_eq_true rfl) rfl ?_
        exact wq_T.less V ⟨rfl, ⟨rfl, trivial⟩⟩
    by_cases c3 : y56.toInt = 113762
    · refine wq_lookup (pc := 30) (off := 108) (tgt := 138) dX4_line_30 (by decide) (by rw [c3]; decide) rfl ?_
      have V := V.2.2.2.1 c3
      refine wq_aload_n (pc := 138) dX4_line_138 rfl rfl ?_
      refine wq_ldcS (a := G.2.2.2.2 21) (pc := 139) (gstr_X4_145 G) dX4_line_139 ?_
      obtain ⟨fs81, w82, V⟩ := V
      refine clq654 (pc := 141) (As := [.ref (G.2.2.2.2 21)]) (st := []) rfl dX4_line_141 rfl (Nat.le_of_ble_eq_true rfl) w82 V (fun C78 S79 => wx_ki (fun y80 h77 V => ?_))
      refine wq_if_eq (pc := 144) (tgt := 192) dX4_line_144 rfl (fun c => ?_) (fun c => ?_)
      · have V := V.1 c
        exact wq_T.less V ⟨rfl, ⟨rfl, trivial⟩⟩
      · have V := V.2 c
        refine wq_iconst (pc := 147) dX4_line_147 gsti3 ?_
        refine wq_istore_n (L' := [some (.ref x0), some (.ref a52), some (.int (3 : Int32))]) (pc := 148) dX4_line_148 rfl (Nat.le_of_ble_eq_true rfl) rfl ?_
        refine wq_goto (pc := 149) (tgt := 192) dX4_line_149 rfl ?_
        exact wq_T.less V ⟨rfl, ⟨rfl, trivial⟩⟩
    by_cases c4 : y56.toInt = 3321844
    · refine wq_lookup (pc := 30) (off := 122) (tgt := 152) dX4_line_30 (by decide) (by rw [c4]; decide) rfl ?_
      have V := V.2.2.2.2.1 c4
      refine wq_aload_n (pc := 152) dX4_line_152 rfl rfl ?_
      refine wq_ldcS (a := G.2.2.2.2 14) (pc := 153) (gstr_X4_147 G) dX4_line_153 ?_
      obtain ⟨fs87, w88, V⟩ := V
      refine clq654 (pc := 155) (As := [.ref (G.2.2.2.2 14)]) (st := []) rfl dX4_line_155 rfl (Nat.le_of_ble_eq_true rfl) w88 V (fun C84 S85 => wx_ki (fun y86 h83 V => ?_))
      refine wq_if_eq (pc := 158) (tgt := 192) dX4_line_158 rfl (fun c => ?_) (fun c => ?_)
      · have V := V.1 c
        exact wq_T.less V ⟨rfl, ⟨rfl, trivial⟩⟩
      · have V := V.2 c
        refine wq_iconst (pc := 161) dX4_line_161 gsti4 ?_
        refine wq_istore_n (L' := [some (.ref x0), some (.ref a52), some (.int (4 : Int32))]) (pc := 162) dX4_line_162 rfl (Nat.le_of_ble_eq_true rfl) rfl ?_
        refine wq_goto (pc := 163) (tgt := 192) dX4_line_163 rfl ?_
        exact wq_T.less V ⟨rfl, ⟨rfl, trivial⟩⟩
    by_cases c5 : y56.toInt = 3327647
    · refine wq_lookup (pc := 30) (off := 80) (tgt := 110) dX4_line_30 (by decide) (by rw [c5]; decide) rfl ?_
      have V := V.2.2.2.2.2.1 c5
      refine wq_aload_n (pc := 110) dX4_line_110 rfl rfl ?_
      refine wq_ldcS (a := G.2.2.2.2 15) (pc := 111) (gstr_X4_141 G) dX4_line_111 ?_
      obtain ⟨fs93, w94, V⟩ := V
      refine clq654 (pc := 113) (As := [.ref (G.2.2.2.2 15)]) (st := []) rfl dX4_line_113 rfl (Nat.le_of_ble_eq_true rfl) w94 V (fun C90 S91 => wx_ki (fun y92 h89 V => ?_))
      refine wq_if_eq (pc := 116) (tgt := 192) dX4_line_116 rfl (fun c => ?_) (fun c => ?_)
      · have V := V.1 c
        exact wq_T.less V ⟨rfl, ⟨rfl, trivial⟩⟩
      · have V := V.2 c
        refine wq_iconst (pc := 119) dX4_line_119 gsti1 ?_
        refine wq_istore_n (L' := [some (.ref x0), some (.ref a52), some (.int (1 : Int32))]) (pc := 120) dX4_line_120 rfl (Nat.le_of_ble_eq_true rfl) rfl ?_
        refine wq_goto (pc := 121) (tgt := 192) dX4_line_121 rfl ?_
        exact wq_T.less V ⟨rfl, ⟨rfl, trivial⟩⟩
    by_cases c6 : y56.toInt = 106845584
    · refine wq_lookup (pc := 30) (off := 94) (tgt := 124) dX4_line_30 (by decide) (by rw [c6]; decide) rfl ?_
      have V := V.2.2.2.2.2.2.1 c6
      refine wq_aload_n (pc := 124) dX4_line_124 rfl rfl ?_
      refine wq_ldcS (a := G.2.2.2.2 18) (pc := 125) (gstr_X4_143 G) dX4_line_125 ?_
      obtain ⟨fs99, w100, V⟩ := V
      refine clq654 (pc := 127) (As := [.ref (G.2.2.2.2 18)]) (st := []) rfl dX4_line_127 rfl (Nat.le_of_ble_eq_true rfl) w100 V (fun C96 S97 => wx_ki (fun y98 h95 V => ?_))
      refine wq_if_eq (pc := 130) (tgt := 192) dX4_line_130 rfl (fun c => ?_) (fun c => ?_)
      · have V := V.1 c
        exact wq_T.less V ⟨rfl, ⟨rfl, trivial⟩⟩
      · have V := V.2 c
        refine wq_iconst (pc := 133) dX4_line_133 gsti2 ?_
        refine wq_istore_n (L' := [some (.ref x0), some (.ref a52), some (.int (2 : Int32))]) (pc := 134) dX4_line_134 rfl (Nat.le_of_ble_eq_true rfl) rfl ?_
        refine wq_goto (pc := 135) (tgt := 192) dX4_line_135 rfl ?_
        exact wq_T.less V ⟨rfl, ⟨rfl, trivial⟩⟩
    refine wq_lookup (pc := 30) (off := 162) (tgt := 192) dX4_line_30 (by decide) (by simp [Op.lookupswitch.offset, Ne.symm c0, Ne.symm c1, Ne.symm c2, Ne.symm c3, Ne.symm c4, Ne.symm c5, Ne.symm c6]) rfl ?_
    have V := V.2.2.2.2.2.2.2 ⟨c0, c1, c2, c3, c4, c5, c6⟩
    exact wq_T.less V ⟨rfl, ⟨rfl, trivial⟩⟩
theorem vX4_line_192 {G : wq_G} {l : Launch} {d C S : Nat} {K : wq_H → Prop} {x0 : Nat} {x2 : Int32} {h : wq_H} (V : (x2.toInt < 0 ∨ 6 < x2.toInt → ∃ fs4 : List Value, h x0 = some (.inr (3, fs4)) ∧ (wq_cw G l d C S mX4_wrong [.ref x0, .int (1 : Int32)] h (fun h1 C2 S3 => K h1))) ∧ (x2.toInt = 0 → ∃ fs9 : List Value, h x0 = some (.inr (3, fs9)) ∧ (wq_cw G l d C S mX4_law [.ref x0] h (fun h6 C7 S8 => K h6))) ∧ (x2.toInt = 1 → wq_gR h x0 [(3, 2)] (fun a11 => ∃ fs15 : List Value, h x0 = some (.inr (3, fs15)) ∧ (wq_cw G l d C S mX4_names [.ref x0, .ref a11, .int (6 : Int32)] h (fun h12 C13 S14 => K h12)))) ∧ (x2.toInt = 2 → wq_gR h x0 [(3, 3)] (fun a17 => ∃ fs21 : List Value, h x0 = some (.inr (3, fs21)) ∧ (wq_cw G l d C S mX4_names [.ref x0, .ref a17, .int (9 : Int32)] h (fun h18 C19 S20 => K h18)))) ∧ (x2.toInt = 3 → ∃ fs26 : List Value, h x0 = some (.inr (3, fs26)) ∧ (wq_cw G l d C S mX4_set [.ref x0] h (fun h23 C24 S25 => K h23))) ∧ (x2.toInt = 4 → ∃ fs31 : List Value, h x0 = some (.inr (3, fs31)) ∧ (wq_cw G l d C S mX4_parity [.ref x0] h (fun h28 C29 S30 => K h28))) ∧ (x2.toInt = 5 → ∃ fs36 : List Value, h x0 = some (.inr (3, fs36)) ∧ (wq_cw G l d C S mX4_ray [.ref x0] h (fun h33 C34 S35 => K h33))) ∧ (x2.toInt = 6 → ∃ fs41 : List Value, h x0 = some (.inr (3, fs41)) ∧ (wq_cw G l d C S mX4_run [.ref x0] h (fun h38 C39 S40 => K h38)))) : wq_T G l d mX4_line (wq_qv K) 192 [some (.ref x0), none, some (.int x2)] [] h C S := by
  refine wq_iload_n (pc := 192) dX4_line_192 rfl rfl ?_
  by_cases c : x2.toInt < 0 ∨ 6 < x2.toInt
  · refine wq_tableOut (pc := 193) (tgt := 297) dX4_line_193 c rfl ?_
    have V := V.1 c
    refine wq_aload_n (pc := 297) dX4_line_297 rfl rfl ?_
    refine wq_iconst (pc := 298) dX4_line_298 gsti1 ?_
    obtain ⟨fs4, w5, V⟩ := V
    refine clq672 (pc := 299) (As := [.int (1 : Int32)]) (st := []) rfl dX4_line_299 rfl (Nat.le_of_ble_eq_true rfl) w5 V (fun C2 S3 => wx_kv (fun h1 V => ?_))
    refine wq_vret (pc := 302) dX4_line_302 rfl ⟨rfl, V⟩
  by_cases c0 : x2.toInt = 0
  · refine wq_tableIn (pc := 193) (off := 43) (tgt := 236) dX4_line_193 (by omega) (by omega) (by rw [c0]; rfl) rfl ?_
    have V := V.2.1 c0
    refine wq_aload_n (pc := 236) dX4_line_236 rfl rfl ?_
    obtain ⟨fs9, w10, V⟩ := V
    refine clq668 (pc := 237) (As := []) (st := []) rfl dX4_line_237 rfl (Nat.le_of_ble_eq_true rfl) w10 V (fun C7 S8 => wx_kv (fun h6 V => ?_))
    refine wq_goto (pc := 240) (tgt := 302) dX4_line_240 rfl ?_
    refine wq_vret (pc := 302) dX4_line_302 rfl ⟨rfl, V⟩
  by_cases c1 : x2.toInt = 1
  · refine wq_tableIn (pc := 193) (off := 50) (tgt := 243) dX4_line_193 (by omega) (by omega) (by rw [c1]; rfl) rfl ?_
    have V := V.2.2.1 c1
    refine wq_aload_n (pc := 243) dX4_line_243 rfl rfl ?_
    refine wq_aload_n (pc := 244) dX4_line_244 rfl rfl ?_
    refine gfq569 (pc := 245) rfl dX4_line_245 V (fun a11 V => ?_)
    refine wq_bipush (pc := 248) dX4_line_248 gstb6 ?_
    obtain ⟨fs15, w16, V⟩ := V
    refine clq703 (pc := 250) (As := [.ref a11, .int (6 : Int32)]) (st := []) rfl dX4_line_250 rfl (Nat.le_of_ble_eq_true rfl) w16 V (fun C13 S14 => wx_kv (fun h12 V => ?_))
    refine wq_goto (pc := 253) (tgt := 302) dX4_line_253 rfl ?_
    refine wq_vret (pc := 302) dX4_line_302 rfl ⟨rfl, V⟩
  by_cases c2 : x2.toInt = 2
  · refine wq_tableIn (pc := 193) (off := 63) (tgt := 256) dX4_line_193 (by omega) (by omega) (by rw [c2]; rfl) rfl ?_
    have V := V.2.2.2.1 c2
    refine wq_aload_n (pc := 256) dX4_line_256 rfl rfl ?_
    refine wq_aload_n (pc := 257) dX4_line_257 rfl rfl ?_
    refine gfq570 (pc := 258) rfl dX4_line_258 V (fun a17 V => ?_)
    refine wq_bipush (pc := 261) dX4_line_261 gstb9 ?_
    obtain ⟨fs21, w22, V⟩ := V
    refine clq703 (pc := 263) (As := [.ref a17, .int (9 : Int32)]) (st := []) rfl dX4_line_263 rfl (Nat.le_of_ble_eq_true rfl) w22 V (fun C19 S20 => wx_kv (fun h18 V => ?_))
    refine wq_goto (pc := 266) (tgt := 302) dX4_line_266 rfl ?_
    refine wq_vret (pc := 302) dX4_line_302 rfl ⟨rfl, V⟩
  by_cases c3 : x2.toInt = 3
  · refine wq_tableIn (pc := 193) (off := 76) (tgt := 269) dX4_line_193 (by omega) (by omega) (by rw [c3]; rfl) rfl ?_
    have V := V.2.2.2.2.1 c3
    refine wq_aload_n (pc := 269) dX4_line_269 rfl rfl ?_
    obtain ⟨fs26, w27, V⟩ := V
    refine clq801 (pc := 270) (As := []) (st := []) rfl dX4_line_270 rfl (Nat.le_of_ble_eq_true rfl) w27 V (fun C24 S25 => wx_kv (fun h23 V => ?_))
    refine wq_goto (pc := 273) (tgt := 302) dX4_line_273 rfl ?_
    refine wq_vret (pc := 302) dX4_line_302 rfl ⟨rfl, V⟩
  by_cases c4 : x2.toInt = 4
  · refine wq_tableIn (pc := 193) (off := 83) (tgt := 276) dX4_line_193 (by omega) (by omega) (by rw [c4]; rfl) rfl ?_
    have V := V.2.2.2.2.2.1 c4
    refine wq_aload_n (pc := 276) dX4_line_276 rfl rfl ?_
    obtain ⟨fs31, w32, V⟩ := V
    refine clq880 (pc := 277) (As := []) (st := []) rfl dX4_line_277 rfl (Nat.le_of_ble_eq_true rfl) w32 V (fun C29 S30 => wx_kv (fun h28 V => ?_))
    refine wq_goto (pc := 280) (tgt := 302) dX4_line_280 rfl ?_
    refine wq_vret (pc := 302) dX4_line_302 rfl ⟨rfl, V⟩
  by_cases c5 : x2.toInt = 5
  · refine wq_tableIn (pc := 193) (off := 90) (tgt := 283) dX4_line_193 (by omega) (by omega) (by rw [c5]; rfl) rfl ?_
    have V := V.2.2.2.2.2.2.1 c5
    refine wq_aload_n (pc := 283) dX4_line_283 rfl rfl ?_
    obtain ⟨fs36, w37, V⟩ := V
    refine clq900 (pc := 284) (As := []) (st := []) rfl dX4_line_284 rfl (Nat.le_of_ble_eq_true rfl) w37 V (fun C34 S35 => wx_kv (fun h33 V => ?_))
    refine wq_goto (pc := 287) (tgt := 302) dX4_line_287 rfl ?_
    refine wq_vret (pc := 302) dX4_line_302 rfl ⟨rfl, V⟩
  have c6 : x2.toInt = 6 := by omega
  · refine wq_tableIn (pc := 193) (off := 97) (tgt := 290) dX4_line_193 (by omega) (by omega) (by rw [c6]; rfl) rfl ?_
    have V := V.2.2.2.2.2.2.2 c6
    refine wq_aload_n (pc := 290) dX4_line_290 rfl rfl ?_
    obtain ⟨fs41, w42, V⟩ := V
    refine clq915 (pc := 291) (As := []) (st := []) rfl dX4_line_291 rfl (Nat.le_of_ble_eq_true rfl) w42 V (fun C39 S40 => wx_kv (fun h38 V => ?_))
    refine wq_goto (pc := 294) (tgt := 302) dX4_line_294 rfl ?_
    refine wq_vret (pc := 302) dX4_line_302 rfl ⟨rfl, V⟩
theorem vX4_law_0 {G : wq_G} {l : Launch} {d C S : Nat} {K : wq_H → Prop} {x0 : Nat} {h : wq_H} (V : wq_gR h x0 [(3, 1)] (fun a1 => wq_gI h a1 [(5, 0)] (fun y2 => (y2 ≤ 0 → ∃ fs6 : List Value, h x0 = some (.inr (3, fs6)) ∧ (wq_cw G l d C S mX4_on [.ref x0] h (fun h3 C4 S5 => ∃ fs11 : List Value, h3 x0 = some (.inr (3, fs11)) ∧ (wq_cw G l d C4 S5 mX4_needs [.ref x0, .ref (G.2.2.2.2 17)] h3 (fun h8 C9 S10 => ∃ fs17 : List Value, h8 x0 = some (.inr (3, fs17)) ∧ (wq_ci G l d C9 S10 mX4_whole [.ref x0, .int (1 : Int32), .int (60 : Int32)] h8 (fun y16 h13 C14 S15 => ∃ fs23 : List Value, h13 x0 = some (.inr (3, fs23)) ∧ (wq_ci G l d C14 S15 mX4_isOver [.ref x0] h13 (fun y22 h19 C20 S21 => (¬ y22 = 0 → K h19) ∧ (y22 = 0 → wq_gR h19 x0 [(3, 1)] (fun a25 => wq_pf G h19 a25 [(5, 0)] (.int y16) (fun h26 => K h26)))))))))))) ∧ (¬ y2 ≤ 0 → ∃ fs30 : List Value, h x0 = some (.inr (3, fs30)) ∧ (wq_cw G l d C S mX4_wrong [.ref x0, .int (3 : Int32)] h (fun h27 C28 S29 => ∃ fs35 : List Value, h27 x0 = some (.inr (3, fs35)) ∧ (wq_cw G l d C28 S29 mX4_on [.ref x0] h27 (fun h32 C33 S34 => ∃ fs40 : List Value, h32 x0 = some (.inr (3, fs40)) ∧ (wq_cw G l d C33 S34 mX4_needs [.ref x0, .ref (G.2.2.2.2 17)] h32 (fun h37 C38 S39 => ∃ fs46 : List Value, h37 x0 = some (.inr (3, fs46)) ∧ (wq_ci G l d C38 S39 mX4_whole [.ref x0, .int (1 : Int32), .int (60 : Int32)] h37 (fun y45 h42 C43 S44 => ∃ fs52 : List Value, h42 x0 = some (.inr (3, fs52)) ∧ (wq_ci G l d C43 S44 mX4_isOver [.ref x0] h42 (fun y51 h48 C49 S50 => (¬ y51 = 0 → K h48) ∧ (y51 = 0 → wq_gR h48 x0 [(3, 1)] (fun a54 => wq_pf G h48 a54 [(5, 0)] (.int y45) (fun h55 => K h55))))))))))))))))) : wq_T G l d mX4_law (wq_qv K) 0 [some (.ref x0), none] [] h C S := by
  refine wq_aload_n (pc := 0) dX4_law_0 rfl rfl ?_
  refine gfq568 (pc := 1) rfl dX4_law_1 V (fun a1 V => ?_)
  refine gfq307 (pc := 4) rfl dX4_law_4 V (fun y2 V => ?_)
  refine wq_if_le (pc := 7) (tgt := 15) dX4_law_7 rfl (fun c => ?_) (fun c => ?_)
  · have V := V.1 c
    refine wq_aload_n (pc := 15) dX4_law_15 rfl rfl ?_
    obtain ⟨fs6, w7, V⟩ := V
    refine clq680 (pc := 16) (As := []) (st := []) rfl dX4_law_16 rfl (Nat.le_of_ble_eq_true rfl) w7 V (fun C4 S5 => wx_kv (fun h3 V => ?_))
    refine wq_aload_n (pc := 19) dX4_law_19 rfl rfl ?_
    refine wq_ldcS (a := G.2.2.2.2 17) (pc := 20) (gstr_X4_167 G) dX4_law_20 ?_
    obtain ⟨fs11, w12, V⟩ := V
    refine clq685 (pc := 22) (As := [.ref (G.2.2.2.2 17)]) (st := []) rfl dX4_law_22 rfl (Nat.le_of_ble_eq_true rfl) w12 V (fun C9 S10 => wx_kv (fun h8 V => ?_))
    refine wq_aload_n (pc := 25) dX4_law_25 rfl rfl ?_
    refine wq_iconst (pc := 26) dX4_law_26 gsti1 ?_
    refine wq_bipush (pc := 27) dX4_law_27 gstb60 ?_
    obtain ⟨fs17, w18, V⟩ := V
    refine clq694 (pc := 29) (As := [.int (1 : Int32), .int (60 : Int32)]) (st := []) rfl dX4_law_29 rfl (Nat.le_of_ble_eq_true rfl) w18 V (fun C14 S15 => wx_ki (fun y16 h13 V => ?_))
    refine wq_istore_n (L' := [some (.ref x0), some (.int y16)]) (pc := 32) dX4_law_32 rfl (Nat.le_of_ble_eq_true rfl) rfl ?_
    refine wq_aload_n (pc := 33) dX4_law_33 rfl rfl ?_
    obtain ⟨fs23, w24, V⟩ := V
    refine clq676 (pc := 34) (As := []) (st := []) rfl dX4_law_34 rfl (Nat.le_of_ble_eq_true rfl) w24 V (fun C20 S21 => wx_ki (fun y22 h19 V => ?_))
    refine wq_if_ne (pc := 37) (tgt := 48) dX4_law_37 rfl (fun c => ?_) (fun c => ?_)
    · have V := V.1 c
      refine wq_vret (pc := 48) dX4_law_48 rfl ⟨rfl, V⟩
    · have V := V.2 c
      refine wq_aload_n (pc := 40) dX4_law_40 rfl rfl ?_
      refine gfq568 (pc := 41) rfl dX4_law_41 V (fun a25 V => ?_)
      refine wq_iload_n (pc := 44) dX4_law_44 rfl rfl ?_
      refine pfq307 (pc := 45) rfl dX4_law_45 ⟨rfl, rfl⟩ V (fun h26 V => ?_)
      refine wq_vret (pc := 48) dX4_law_48 rfl ⟨rfl, V⟩
  · have V := V.2 c
    refine wq_aload_n (pc := 10) dX4_law_10 rfl rfl ?_
    refine wq_iconst (pc := 11) dX4_law_11 gsti3 ?_
    obtain ⟨fs30, w31, V⟩ := V
    refine clq672 (pc := 12) (As := [.int (3 : Int32)]) (st := []) rfl dX4_law_12 rfl (Nat.le_of_ble_eq_true rfl) w31 V (fun C28 S29 => wx_kv (fun h27 V => ?_))
    refine wq_aload_n (pc := 15) dX4_law_15 rfl rfl ?_
    obtain ⟨fs35, w36, V⟩ := V
    refine clq680 (pc := 16) (As := []) (st := []) rfl dX4_law_16 rfl (Nat.le_of_ble_eq_true rfl) w36 V (fun C33 S34 => wx_kv (fun h32 V => ?_))
    refine wq_aload_n (pc := 19) dX4_law_19 rfl rfl ?_
    refine wq_ldcS (a := G.2.2.2.2 17) (pc := 20) (gstr_X4_167 G) dX4_law_20 ?_
    obtain ⟨fs40, w41, V⟩ := V
    refine clq685 (pc := 22) (As := [.ref (G.2.2.2.2 17)]) (st := []) rfl dX4_law_22 rfl (Nat.le_of_ble_eq_true rfl) w41 V (fun C38 S39 => wx_kv (fun h37 V => ?_))
    refine wq_aload_n (pc := 25) dX4_law_25 rfl rfl ?_
    refine wq_iconst (pc := 26) dX4_law_26 gsti1 ?_
    refine wq_bipush (pc := 27) dX4_law_27 gstb60 ?_
    obtain ⟨fs46, w47, V⟩ := V
    refine clq694 (pc := 29) (As := [.int (1 : Int32), .int (60 : Int32)]) (st := []) rfl dX4_law_29 rfl (Nat.le_of_ble_eq_true rfl) w47 V (fun C43 S44 => wx_ki (fun y45 h42 V => ?_))
    refine wq_istore_n (L' := [some (.ref x0), some (.int y45)]) (pc := 32) dX4_law_32 rfl (Nat.le_of_ble_eq_true rfl) rfl ?_
    refine wq_aload_n (pc := 33) dX4_law_33 rfl rfl ?_
    obtain ⟨fs52, w53, V⟩ := V
    refine clq676 (pc := 34) (As := []) (st := []) rfl dX4_law_34 rfl (Nat.le_of_ble_eq_true rfl) w53 V (fun C49 S50 => wx_ki (fun y51 h48 V => ?_))
    refine wq_if_ne (pc := 37) (tgt := 48) dX4_law_37 rfl (fun c => ?_) (fun c => ?_)
    · have V := V.1 c
      refine wq_vret (pc := 48) dX4_law_48 rfl ⟨rfl, V⟩
    · have V := V.2 c
      refine wq_aload_n (pc := 40) dX4_law_40 rfl rfl ?_
      refine gfq568 (pc := 41) rfl dX4_law_41 V (fun a54 V => ?_)
      refine wq_iload_n (pc := 44) dX4_law_44 rfl rfl ?_
      refine pfq307 (pc := 45) rfl dX4_law_45 ⟨rfl, rfl⟩ V (fun h55 V => ?_)
      refine wq_vret (pc := 48) dX4_law_48 rfl ⟨rfl, V⟩
theorem vX4_wrong_0 {G : wq_G} {l : Launch} {d C S : Nat} {K : wq_H → Prop} {x0 : Nat} {x1 : Int32} {h : wq_H} (V : ∃ fs5 : List Value, h x0 = some (.inr (3, fs5)) ∧ (wq_ci G l d C S mX4_isOver [.ref x0] h (fun y4 h1 C2 S3 => (y4 = 0 → wq_pf G h1 x0 [(3, 5)] (.int x1) (fun h7 => wq_gR h7 x0 [(3, 4)] (fun a8 => wq_gI h7 a8 [(7, 1)] (fun y9 => wq_pf G h7 x0 [(3, 6)] (.int y9) (fun h10 => K h10))))) ∧ (¬ y4 = 0 → K h1)))) : wq_T G l d mX4_wrong (wq_qv K) 0 [some (.ref x0), some (.int x1)] [] h C S := by
  refine wq_aload_n (pc := 0) dX4_wrong_0 rfl rfl ?_
  obtain ⟨fs5, w6, V⟩ := V
  refine clq676 (pc := 1) (As := []) (st := []) rfl dX4_wrong_1 rfl (Nat.le_of_ble_eq_true rfl) w6 V (fun C2 S3 => wx_ki (fun y4 h1 V => ?_))
  refine wq_if_eq (pc := 4) (tgt := 8) dX4_wrong_4 rfl (fun c => ?_) (fun c => ?_)
  · have V := V.1 c
    refine wq_aload_n (pc := 8) dX4_wrong_8 rfl rfl ?_
    refine wq_iload_n (pc := 9) dX4_wrong_9 rfl rfl ?_
    refine pfq572 (pc := 10) rfl dX4_wrong_10 ⟨rfl, rfl⟩ V (fun h7 V => ?_)
    refine wq_aload_n (pc := 13) dX4_wrong_13 rfl rfl ?_
    refine wq_aload_n (pc := 14) dX4_wrong_14 rfl rfl ?_
    refine gfq571 (pc := 15) rfl dX4_wrong_15 V (fun a8 V => ?_)
    refine gfq363 (pc := 18) rfl dX4_wrong_18 V (fun y9 V => ?_)
    refine pfq574 (pc := 21) rfl dX4_wrong_21 ⟨rfl, rfl⟩ V (fun h10 V => ?_)
    refine wq_vret (pc := 24) dX4_wrong_24 rfl ⟨rfl, V⟩
  · have V := V.2 c
    refine wq_vret (pc := 7) dX4_wrong_7 rfl ⟨rfl, V⟩
theorem vX4_isOver_0 {G : wq_G} {l : Launch} {d C S : Nat} {K : Int32 → wq_H → Prop} {x0 : Nat} {h : wq_H} (V : wq_gI h x0 [(3, 5)] (fun y1 => (y1 ≤ 0 → K (0 : Int32) h) ∧ (¬ y1 ≤ 0 → K (1 : Int32) h))) : wq_T G l d mX4_isOver (wq_qi K) 0 [some (.ref x0)] [] h C S := by
  refine wq_aload_n (pc := 0) dX4_isOver_0 rfl rfl ?_
  refine gfq572 (pc := 1) rfl dX4_isOver_1 V (fun y1 V => ?_)
  refine wq_if_le (pc := 4) (tgt := 11) dX4_isOver_4 rfl (fun c => ?_) (fun c => ?_)
  · have V := V.1 c
    refine wq_iconst (pc := 11) dX4_isOver_11 gsti0 ?_
    refine wq_zret (pc := 12) dX4_isOver_12 rfl gn_b0 ⟨_, rfl, V⟩
  · have V := V.2 c
    refine wq_iconst (pc := 7) dX4_isOver_7 gsti1 ?_
    refine wq_goto (pc := 8) (tgt := 12) dX4_isOver_8 rfl ?_
    refine wq_zret (pc := 12) dX4_isOver_12 rfl gn_b1 ⟨_, rfl, V⟩
theorem vX4_on_0 {G : wq_G} {l : Launch} {d C S : Nat} {K : wq_H → Prop} {x0 : Nat} {h : wq_H} (V : ∃ fs5 : List Value, h x0 = some (.inr (3, fs5)) ∧ (wq_ci G l d C S mX4_isOver [.ref x0] h (fun y4 h1 C2 S3 => (¬ y4 = 0 → K h1) ∧ (y4 = 0 → wq_gR h1 x0 [(3, 4)] (fun a7 => wq_gI h1 a7 [(7, 0)] (fun y8 => (y8 = (1 : Int32) → K h1) ∧ (¬ y8 = (1 : Int32) → wq_gR h1 x0 [(3, 0)] (fun a9 => ∃ fs14 : List Value, h1 a9 = some (.inr (4, fs14)) ∧ (wq_cq G l d C2 S3 mX5_next [.ref a9] h1 (fun r13 h10 C11 S12 => wq_pf G h10 x0 [(3, 4)] (va_rf r13) (fun h16 => K h16))))))))))) : wq_T G l d mX4_on (wq_qv K) 0 [some (.ref x0)] [] h C S := by
  refine wq_aload_n (pc := 0) dX4_on_0 rfl rfl ?_
  obtain ⟨fs5, w6, V⟩ := V
  refine clq676 (pc := 1) (As := []) (st := []) rfl dX4_on_1 rfl (Nat.le_of_ble_eq_true rfl) w6 V (fun C2 S3 => wx_ki (fun y4 h1 V => ?_))
  refine wq_if_ne (pc := 4) (tgt := 29) dX4_on_4 rfl (fun c => ?_) (fun c => ?_)
  · have V := V.1 c
    refine wq_vret (pc := 29) dX4_on_29 rfl ⟨rfl, V⟩
  · have V := V.2 c
    refine wq_aload_n (pc := 7) dX4_on_7 rfl rfl ?_
    refine gfq571 (pc := 8) rfl dX4_on_8 V (fun a7 V => ?_)
    refine gfq361 (pc := 11) rfl dX4_on_11 V (fun y8 V => ?_)
    refine wq_iconst (pc := 14) dX4_on_14 gsti1 ?_
    refine wq_icmp_eq (pc := 15) (tgt := 29) dX4_on_15 rfl (fun c => ?_) (fun c => ?_)
    · have V := V.1 c
      refine wq_vret (pc := 29) dX4_on_29 rfl ⟨rfl, V⟩
    · have V := V.2 c
      refine wq_aload_n (pc := 18) dX4_on_18 rfl rfl ?_
      refine wq_aload_n (pc := 19) dX4_on_19 rfl rfl ?_
      refine gfq567 (pc := 20) rfl dX4_on_20 V (fun a9 V => ?_)
      obtain ⟨fs14, w15, V⟩ := V
      refine clq345 (pc := 23) (As := []) (st := [.ref x0]) rfl dX4_on_23 rfl (Nat.le_of_ble_eq_true rfl) w15 V (fun C11 S12 => wx_kq (fun r13 h10 V => ?_))
      refine pfq571 (pc := 26) rfl dX4_on_26 (wq_nfr rfl r13) V (fun h16 V => ?_)
      refine wq_vret (pc := 29) dX4_on_29 rfl ⟨rfl, V⟩
theorem vX4_needs_0 {G : wq_G} {l : Launch} {d C S : Nat} {K : wq_H → Prop} {x0 : Nat} {x1 : Nat} {h : wq_H} (V : wq_gR h x0 [(3, 4)] (fun a1 => ∃ fs6 : List Value, h a1 = some (.inr (7, fs6)) ∧ (wq_ci G l d C S mX8_is [.ref a1, .ref x1] h (fun y5 h2 C3 S4 => (¬ y5 = 0 → ∃ fs11 : List Value, h2 x0 = some (.inr (3, fs11)) ∧ (wq_cw G l d C3 S4 mX4_on [.ref x0] h2 (fun h8 C9 S10 => K h8))) ∧ (y5 = 0 → ∃ fs16 : List Value, h2 x0 = some (.inr (3, fs16)) ∧ (wq_cw G l d C3 S4 mX4_wrong [.ref x0, .int (1 : Int32)] h2 (fun h13 C14 S15 => ∃ fs21 : List Value, h13 x0 = some (.inr (3, fs21)) ∧ (wq_cw G l d C14 S15 mX4_on [.ref x0] h13 (fun h18 C19 S20 => K h18))))))))) : wq_T G l d mX4_needs (wq_qv K) 0 [some (.ref x0), some (.ref x1)] [] h C S := by
  refine wq_aload_n (pc := 0) dX4_needs_0 rfl rfl ?_
  refine gfq571 (pc := 1) rfl dX4_needs_1 V (fun a1 V => ?_)
  refine wq_aload_n (pc := 4) dX4_needs_4 rfl rfl ?_
  obtain ⟨fs6, w7, V⟩ := V
  refine clq689 (pc := 5) (As := [.ref x1]) (st := []) rfl dX4_needs_5 rfl (Nat.le_of_ble_eq_true rfl) w7 V (fun C3 S4 => wx_ki (fun y5 h2 V => ?_))
  refine wq_if_ne (pc := 8) (tgt := 16) dX4_needs_8 rfl (fun c => ?_) (fun c => ?_)
  · have V := V.1 c
    refine wq_aload_n (pc := 16) dX4_needs_16 rfl rfl ?_
    obtain ⟨fs11, w12, V⟩ := V
    refine clq680 (pc := 17) (As := []) (st := []) rfl dX4_needs_17 rfl (Nat.le_of_ble_eq_true rfl) w12 V (fun C9 S10 => wx_kv (fun h8 V => ?_))
    refine wq_vret (pc := 20) dX4_needs_20 rfl ⟨rfl, V⟩
  · have V := V.2 c
    refine wq_aload_n (pc := 11) dX4_needs_11 rfl rfl ?_
    refine wq_iconst (pc := 12) dX4_needs_12 gsti1 ?_
    obtain ⟨fs16, w17, V⟩ := V
    refine clq672 (pc := 13) (As := [.int (1 : Int32)]) (st := []) rfl dX4_needs_13 rfl (Nat.le_of_ble_eq_true rfl) w17 V (fun C14 S15 => wx_kv (fun h13 V => ?_))
    refine wq_aload_n (pc := 16) dX4_needs_16 rfl rfl ?_
    obtain ⟨fs21, w22, V⟩ := V
    refine clq680 (pc := 17) (As := []) (st := []) rfl dX4_needs_17 rfl (Nat.le_of_ble_eq_true rfl) w22 V (fun C19 S20 => wx_kv (fun h18 V => ?_))
    refine wq_vret (pc := 20) dX4_needs_20 rfl ⟨rfl, V⟩
theorem vX4_whole_0 {G : wq_G} {l : Launch} {d C S : Nat} {K : Int32 → wq_H → Prop} {x0 : Nat} {x1 : Int32} {x2 : Int32} {h : wq_H} (V : ∃ fs5 : List Value, h x0 = some (.inr (3, fs5)) ∧ (wq_ci G l d C S mX4_bounded [.ref x0, .int x1, .int x2] h (fun y4 h1 C2 S3 => ∃ fs10 : List Value, h1 x0 = some (.inr (3, fs10)) ∧ (wq_cw G l d C2 S3 mX4_on [.ref x0] h1 (fun h7 C8 S9 => K y4 h7))))) : wq_T G l d mX4_whole (wq_qi K) 0 [some (.ref x0), some (.int x1), some (.int x2), none] [] h C S := by
  refine wq_aload_n (pc := 0) dX4_whole_0 rfl rfl ?_
  refine wq_iload_n (pc := 1) dX4_whole_1 rfl rfl ?_
  refine wq_iload_n (pc := 2) dX4_whole_2 rfl rfl ?_
  obtain ⟨fs5, w6, V⟩ := V
  refine clq698 (pc := 3) (As := [.int x1, .int x2]) (st := []) rfl dX4_whole_3 rfl (Nat.le_of_ble_eq_true rfl) w6 V (fun C2 S3 => wx_ki (fun y4 h1 V => ?_))
  refine wq_istore_n (L' := [some (.ref x0), some (.int x1), some (.int x2), some (.int y4)]) (pc := 6) dX4_whole_6 rfl (Nat.le_of_ble_eq_true rfl) rfl ?_
  refine wq_aload_n (pc := 7) dX4_whole_7 rfl rfl ?_
  obtain ⟨fs10, w11, V⟩ := V
  refine clq680 (pc := 8) (As := []) (st := []) rfl dX4_whole_8 rfl (Nat.le_of_ble_eq_true rfl) w11 V (fun C8 S9 => wx_kv (fun h7 V => ?_))
  refine wq_iload_n (pc := 11) dX4_whole_11 rfl rfl ?_
  refine wq_iret (pc := 12) dX4_whole_12 rfl ⟨_, rfl, V⟩
theorem vX4_bounded_0 {G : wq_G} {l : Launch} {d C S : Nat} {K : Int32 → wq_H → Prop} {x0 : Nat} {x1 : Int32} {x2 : Int32} {h : wq_H} (V : wq_gR h x0 [(3, 4)] (fun a1 => wq_gI h a1 [(7, 0)] (fun y2 => (y2 = (3 : Int32) → wq_gR h x0 [(3, 4)] (fun a3 => wq_gI h a3 [(7, 2)] (fun y4 => wq_ci G l d C S mX1_in [.int y4, .int x1, .int x2] h (fun y8 h5 C6 S7 => (¬ y8 = 0 → wq_gR h5 x0 [(3, 4)] (fun a9 => wq_gI h5 a9 [(7, 2)] (fun y10 => K y10 h5))) ∧ (y8 = 0 → ∃ fs14 : List Value, h5 x0 = some (.inr (3, fs14)) ∧ (wq_cw G l d C6 S7 mX4_wrong [.ref x0, .int (4 : Int32)] h5 (fun h11 C12 S13 => wq_gR h11 x0 [(3, 4)] (fun a16 => wq_gI h11 a16 [(7, 2)] (fun y17 => K y17 h11))))))))) ∧ (¬ y2 = (3 : Int32) → ∃ fs21 : List Value, h x0 = some (.inr (3, fs21)) ∧ (wq_cw G l d C S mX4_wrong [.ref x0, .int (1 : Int32)] h (fun h18 C19 S20 => wq_gR h18 x0 [(3, 4)] (fun a23 => wq_gI h18 a23 [(7, 2)] (fun y24 => K y24 h18)))))))) : wq_T G l d mX4_bounded (wq_qi K) 0 [some (.ref x0), some (.int x1), some (.int x2)] [] h C S := by
  refine wq_aload_n (pc := 0) dX4_bounded_0 rfl rfl ?_
  refine gfq571 (pc := 1) rfl dX4_bounded_1 V (fun a1 V => ?_)
  refine gfq361 (pc := 4) rfl dX4_bounded_4 V (fun y2 V => ?_)
  refine wq_iconst (pc := 7) dX4_bounded_7 gsti3 ?_
  refine wq_icmp_eq (pc := 8) (tgt := 19) dX4_bounded_8 rfl (fun c => ?_) (fun c => ?_)
  · have V := V.1 c
    refine wq_aload_n (pc := 19) dX4_bounded_19 rfl rfl ?_
    refine gfq571 (pc := 20) rfl dX4_bounded_20 V (fun a3 V => ?_)
    refine gfq365 (pc := 23) rfl dX4_bounded_23 V (fun y4 V => ?_)
    refine wq_iload_n (pc := 26) dX4_bounded_26 rfl rfl ?_
    refine wq_iload_n (pc := 27) dX4_bounded_27 rfl rfl ?_
    refine clq702 (pc := 28) (As := [.int y4, .int x1, .int x2]) (st := []) rfl dX4_bounded_28 rfl (Nat.le_of_ble_eq_true rfl) V (fun C6 S7 => wx_ki (fun y8 h5 V => ?_))
    refine wq_if_ne (pc := 31) (tgt := 39) dX4_bounded_31 rfl (fun c => ?_) (fun c => ?_)
    · have V := V.1 c
      refine wq_aload_n (pc := 39) dX4_bounded_39 rfl rfl ?_
      refine gfq571 (pc := 40) rfl dX4_bounded_40 V (fun a9 V => ?_)
      refine gfq365 (pc := 43) rfl dX4_bounded_43 V (fun y10 V => ?_)
      refine wq_iret (pc := 46) dX4_bounded_46 rfl ⟨_, rfl, V⟩
    · have V := V.2 c
      refine wq_aload_n (pc := 34) dX4_bounded_34 rfl rfl ?_
      refine wq_iconst (pc := 35) dX4_bounded_35 gsti4 ?_
      obtain ⟨fs14, w15, V⟩ := V
      refine clq672 (pc := 36) (As := [.int (4 : Int32)]) (st := []) rfl dX4_bounded_36 rfl (Nat.le_of_ble_eq_true rfl) w15 V (fun C12 S13 => wx_kv (fun h11 V => ?_))
      refine wq_aload_n (pc := 39) dX4_bounded_39 rfl rfl ?_
      refine gfq571 (pc := 40) rfl dX4_bounded_40 V (fun a16 V => ?_)
      refine gfq365 (pc := 43) rfl dX4_bounded_43 V (fun y17 V => ?_)
      refine wq_iret (pc := 46) dX4_bounded_46 rfl ⟨_, rfl, V⟩
  · have V := V.2 c
    refine wq_aload_n (pc := 11) dX4_bounded_11 rfl rfl ?_
    refine wq_iconst (pc := 12) dX4_bounded_12 gsti1 ?_
    obtain ⟨fs21, w22, V⟩ := V
    refine clq672 (pc := 13) (As := [.int (1 : Int32)]) (st := []) rfl dX4_bounded_13 rfl (Nat.le_of_ble_eq_true rfl) w22 V (fun C19 S20 => wx_kv (fun h18 V => ?_))
    refine wq_goto (pc := 16) (tgt := 39) dX4_bounded_16 rfl ?_
    refine wq_aload_n (pc := 39) dX4_bounded_39 rfl rfl ?_
    refine gfq571 (pc := 40) rfl dX4_bounded_40 V (fun a23 V => ?_)
    refine gfq365 (pc := 43) rfl dX4_bounded_43 V (fun y24 V => ?_)
    refine wq_iret (pc := 46) dX4_bounded_46 rfl ⟨_, rfl, V⟩
theorem vX4_names_0 {G : wq_G} {l : Launch} {d C S : Nat} {K : wq_H → Prop} {x0 : Nat} {x1 : Nat} {x2 : Int32} {h : wq_H} (V : ∃ fs4 : List Value, h x0 = some (.inr (3, fs4)) ∧ (wq_cw G l d C S mX4_on [.ref x0] h (fun h1 C2 S3 => wq_T G l d mX4_names (wq_qv K) 4 [some (.ref x0), some (.ref x1), some (.int x2), none] [] h1 C2 S3))) : wq_T G l d mX4_names (wq_qv K) 0 [some (.ref x0), some (.ref x1), some (.int x2), none] [] h C S := by
  refine wq_aload_n (pc := 0) dX4_names_0 rfl rfl ?_
  obtain ⟨fs4, w5, V⟩ := V
  refine clq680 (pc := 1) (As := []) (st := []) rfl dX4_names_1 rfl (Nat.le_of_ble_eq_true rfl) w5 V (fun C2 S3 => wx_kv (fun h1 V => ?_))
  exact wq_T.less V ⟨rfl, ⟨rfl, ⟨rfl, trivial⟩⟩⟩
theorem vX4_names_4 {G : wq_G} {l : Launch} {d C S : Nat} {K : wq_H → Prop} {x0 : Nat} {x1 : Nat} {x2 : Int32} {h : wq_H} (V : wq_gR h x0 [(3, 4)] (fun a1 => ∃ fs6 : List Value, h a1 = some (.inr (7, fs6)) ∧ (wq_ci G l d C S mX8_isName [.ref a1] h (fun y5 h2 C3 S4 => (¬ y5 = 0 → wq_gR h2 x0 [(3, 2)] (fun a8 => wq_gR h2 a1 [(7, 3)] (fun a9 => wq_ci G l d C3 S4 mX4_find [.ref a8, .ref a9] h2 (fun y13 h10 C11 S12 => (¬ y13 = (-1 : Int32) → ∃ fs17 : List Value, h10 x0 = some (.inr (3, fs17)) ∧ (wq_cw G l d C11 S12 mX4_wrong [.ref x0, .int (3 : Int32)] h10 (fun h14 C15 S16 => wq_T G l d mX4_names (wq_qv K) 56 [some (.ref x0), some (.ref x1), some (.int x2), some (.ref a1)] [] h14 C15 S16))) ∧ (y13 = (-1 : Int32) → wq_gR h10 x0 [(3, 3)] (fun a19 => wq_gR h10 a1 [(7, 3)] (fun a20 => wq_ci G l d C11 S12 mX4_find [.ref a19, .ref a20] h10 (fun y24 h21 C22 S23 => (y24 = (-1 : Int32) → wq_T G l d mX4_names (wq_qv K) 56 [some (.ref x0), some (.ref x1), some (.int x2), some (.ref a1)] [] h21 C22 S23) ∧ (¬ y24 = (-1 : Int32) → ∃ fs28 : List Value, h21 x0 = some (.inr (3, fs28)) ∧ (wq_cw G l d C22 S23 mX4_wrong [.ref x0, .int (3 : Int32)] h21 (fun h25 C26 S27 => wq_T G l d mX4_names (wq_qv K) 56 [some (.ref x0), some (.ref x1), some (.int x2), some (.ref a1)] [] h25 C26 S27))))))))))) ∧ (y5 = 0 → ∃ fs33 : List Value, h2 x0 = some (.inr (3, fs33)) ∧ (wq_cw G l d C3 S4 mX4_wrong [.ref x0, .int (1 : Int32)] h2 (fun h30 C31 S32 => wq_gR h30 x0 [(3, 2)] (fun a35 => wq_gR h30 a1 [(7, 3)] (fun a36 => wq_ci G l d C31 S32 mX4_find [.ref a35, .ref a36] h30 (fun y40 h37 C38 S39 => (¬ y40 = (-1 : Int32) → ∃ fs44 : List Value, h37 x0 = some (.inr (3, fs44)) ∧ (wq_cw G l d C38 S39 mX4_wrong [.ref x0, .int (3 : Int32)] h37 (fun h41 C42 S43 => wq_T G l d mX4_names (wq_qv K) 56 [some (.ref x0), some (.ref x1), some (.int x2), some (.ref a1)] [] h41 C42 S43))) ∧ (y40 = (-1 : Int32) → wq_gR h37 x0 [(3, 3)] (fun a46 => wq_gR h37 a1 [(7, 3)] (fun a47 => wq_ci G l d C38 S39 mX4_find [.ref a46, .ref a47] h37 (fun y51 h48 C49 S50 => (y51 = (-1 : Int32) → wq_T G l d mX4_names (wq_qv K) 56 [some (.ref x0), some (.ref x1), some (.int x2), some (.ref a1)] [] h48 C49 S50) ∧ (¬ y51 = (-1 : Int32) → ∃ fs55 : List Value, h48 x0 = some (.inr (3, fs55)) ∧ (wq_cw G l d C49 S50 mX4_wrong [.ref x0, .int (3 : Int32)] h48 (fun h52 C53 S54 => wq_T G l d mX4_names (wq_qv K) 56 [some (.ref x0), some (.ref x1), some (.int x2), some (.ref a1)] [] h52 C53 S54))))))))))))))))) : wq_T G l d mX4_names (wq_qv K) 4 [some (.ref x0), some (.ref x1), some (.int x2), none] [] h C S := by
  refine wq_aload_n (pc := 4) dX4_names_4 rfl rfl ?_
  refine gfq571 (pc := 5) rfl dX4_names_5 V (fun a1 V => ?_)
  refine wq_astore_n (L' := [some (.ref x0), some (.ref x1), some (.int x2), some (.ref a1)]) (pc := 8) dX4_names_8 rfl (Nat.le_of_ble_eq_true rfl) rfl ?_
  refine wq_aload_n (pc := 9) dX4_names_9 rfl rfl ?_
  obtain ⟨fs6, w7, V⟩ := V
  refine clq707 (pc := 10) (As := []) (st := []) rfl dX4_names_10 rfl (Nat.le_of_ble_eq_true rfl) w7 V (fun C3 S4 => wx_ki (fun y5 h2 V => ?_))
  refine wq_if_ne (pc := 13) (tgt := 21) dX4_names_13 rfl (fun c => ?_) (fun c => ?_)
  · have V := V.1 c
    refine wq_aload_n (pc := 21) dX4_names_21 rfl rfl ?_
    refine gfq569 (pc := 22) rfl dX4_names_22 V (fun a8 V => ?_)
    refine wq_aload_n (pc := 25) dX4_names_25 rfl rfl ?_
    refine gfq367 (pc := 26) rfl dX4_names_26 V (fun a9 V => ?_)
    refine clq719 (pc := 29) (As := [.ref a8, .ref a9]) (st := []) rfl dX4_names_29 rfl (Nat.le_of_ble_eq_true rfl) V (fun C11 S12 => wx_ki (fun y13 h10 V => ?_))
    refine wq_iconst (pc := 32) dX4_names_32 gstim1 ?_
    refine wq_icmp_ne (pc := 33) (tgt := 51) dX4_names_33 rfl (fun c => ?_) (fun c => ?_)
    · have V := V.1 c
      refine wq_aload_n (pc := 51) dX4_names_51 rfl rfl ?_
      refine wq_iconst (pc := 52) dX4_names_52 gsti3 ?_
      obtain ⟨fs17, w18, V⟩ := V
      refine clq672 (pc := 53) (As := [.int (3 : Int32)]) (st := []) rfl dX4_names_53 rfl (Nat.le_of_ble_eq_true rfl) w18 V (fun C15 S16 => wx_kv (fun h14 V => ?_))
      exact wq_T.less V ⟨rfl, ⟨rfl, ⟨rfl, ⟨rfl, trivial⟩⟩⟩⟩
    · have V := V.2 c
      refine wq_aload_n (pc := 36) dX4_names_36 rfl rfl ?_
      refine gfq570 (pc := 37) rfl dX4_names_37 V (fun a19 V => ?_)
      refine wq_aload_n (pc := 40) dX4_names_40 rfl rfl ?_
      refine gfq367 (pc := 41) rfl dX4_names_41 V (fun a20 V => ?_)
      refine clq719 (pc := 44) (As := [.ref a19, .ref a20]) (st := []) rfl dX4_names_44 rfl (Nat.le_of_ble_eq_true rfl) V (fun C22 S23 => wx_ki (fun y24 h21 V => ?_))
      refine wq_iconst (pc := 47) dX4_names_47 gstim1 ?_
      refine wq_icmp_eq (pc := 48) (tgt := 56) dX4_names_48 rfl (fun c => ?_) (fun c => ?_)
      · have V := V.1 c
        exact wq_T.less V ⟨rfl, ⟨rfl, ⟨rfl, ⟨rfl, trivial⟩⟩⟩⟩
      · have V := V.2 c
        refine wq_aload_n (pc := 51) dX4_names_51 rfl rfl ?_
        refine wq_iconst (pc := 52) dX4_names_52 gsti3 ?_
        obtain ⟨fs28, w29, V⟩ := V
        refine clq672 (pc := 53) (As := [.int (3 : Int32)]) (st := []) rfl dX4_names_53 rfl (Nat.le_of_ble_eq_true rfl) w29 V (fun C26 S27 => wx_kv (fun h25 V => ?_))
        exact wq_T.less V ⟨rfl, ⟨rfl, ⟨rfl, ⟨rfl, trivial⟩⟩⟩⟩
  · have V := V.2 c
    refine wq_aload_n (pc := 16) dX4_names_16 rfl rfl ?_
    refine wq_iconst (pc := 17) dX4_names_17 gsti1 ?_
    obtain ⟨fs33, w34, V⟩ := V
    refine clq672 (pc := 18) (As := [.int (1 : Int32)]) (st := []) rfl dX4_names_18 rfl (Nat.le_of_ble_eq_true rfl) w34 V (fun C31 S32 => wx_kv (fun h30 V => ?_))
    refine wq_aload_n (pc := 21) dX4_names_21 rfl rfl ?_
    refine gfq569 (pc := 22) rfl dX4_names_22 V (fun a35 V => ?_)
    refine wq_aload_n (pc := 25) dX4_names_25 rfl rfl ?_
    refine gfq367 (pc := 26) rfl dX4_names_26 V (fun a36 V => ?_)
    refine clq719 (pc := 29) (As := [.ref a35, .ref a36]) (st := []) rfl dX4_names_29 rfl (Nat.le_of_ble_eq_true rfl) V (fun C38 S39 => wx_ki (fun y40 h37 V => ?_))
    refine wq_iconst (pc := 32) dX4_names_32 gstim1 ?_
    refine wq_icmp_ne (pc := 33) (tgt := 51) dX4_names_33 rfl (fun c => ?_) (fun c => ?_)
    · have V := V.1 c
      refine wq_aload_n (pc := 51) dX4_names_51 rfl rfl ?_
      refine wq_iconst (pc := 52) dX4_names_52 gsti3 ?_
      obtain ⟨fs44, w45, V⟩ := V
      refine clq672 (pc := 53) (As := [.int (3 : Int32)]) (st := []) rfl dX4_names_53 rfl (Nat.le_of_ble_eq_true rfl) w45 V (fun C42 S43 => wx_kv (fun h41 V => ?_))
      exact wq_T.less V ⟨rfl, ⟨rfl, ⟨rfl, ⟨rfl, trivial⟩⟩⟩⟩
    · have V := V.2 c
      refine wq_aload_n (pc := 36) dX4_names_36 rfl rfl ?_
      refine gfq570 (pc := 37) rfl dX4_names_37 V (fun a46 V => ?_)
      refine wq_aload_n (pc := 40) dX4_names_40 rfl rfl ?_
      refine gfq367 (pc := 41) rfl dX4_names_41 V (fun a47 V => ?_)
      refine clq719 (pc := 44) (As := [.ref a46, .ref a47]) (st := []) rfl dX4_names_44 rfl (Nat.le_of_ble_eq_true rfl) V (fun C49 S50 => wx_ki (fun y51 h48 V => ?_))
      refine wq_iconst (pc := 47) dX4_names_47 gstim1 ?_
      refine wq_icmp_eq (pc := 48) (tgt := 56) dX4_names_48 rfl (fun c => ?_) (fun c => ?_)
      · have V := V.1 c
        exact wq_T.less V ⟨rfl, ⟨rfl, ⟨rfl, ⟨rfl, trivial⟩⟩⟩⟩
      · have V := V.2 c
        refine wq_aload_n (pc := 51) dX4_names_51 rfl rfl ?_
        refine wq_iconst (pc := 52) dX4_names_52 gsti3 ?_
        obtain ⟨fs55, w56, V⟩ := V
        refine clq672 (pc := 53) (As := [.int (3 : Int32)]) (st := []) rfl dX4_names_53 rfl (Nat.le_of_ble_eq_true rfl) w56 V (fun C53 S54 => wx_kv (fun h52 V => ?_))
        exact wq_T.less V ⟨rfl, ⟨rfl, ⟨rfl, ⟨rfl, trivial⟩⟩⟩⟩
theorem vX4_names_56 {G : wq_G} {l : Launch} {d C S : Nat} {K : wq_H → Prop} {x0 : Nat} {x1 : Nat} {x2 : Int32} {x3 : Nat} {h : wq_H} (V : ∃ fs5 : List Value, h x1 = some (.inr (16, fs5)) ∧ (wq_ci G l d C S mJ2_size [.ref x1] h (fun y4 h1 C2 S3 => (¬ y4 = x2 → ∃ fs10 : List Value, h1 x0 = some (.inr (3, fs10)) ∧ (wq_cw G l d C2 S3 mX4_on [.ref x0] h1 (fun h7 C8 S9 => ∃ fs16 : List Value, h7 x0 = some (.inr (3, fs16)) ∧ (wq_ci G l d C8 S9 mX4_isOver [.ref x0] h7 (fun y15 h12 C13 S14 => (¬ y15 = 0 → ∃ fs22 : List Value, h12 x0 = some (.inr (3, fs22)) ∧ (wq_ci G l d C13 S14 mX4_eatsSign [.ref x0, .int (44 : Int32)] h12 (fun y21 h18 C19 S20 => (¬ y21 = 0 → wq_T G l d mX4_names (wq_qv K) 4 [some (.ref x0), some (.ref x1), some (.int x2), none] [] h18 C19 S20) ∧ (y21 = 0 → K h18)))) ∧ (y15 = 0 → wq_gR h12 x3 [(7, 3)] (fun a24 => ∃ fs29 : List Value, h12 x1 = some (.inr (16, fs29)) ∧ (wq_ci G l d C13 S14 mJ2_add [.ref x1, .ref a24] h12 (fun y28 h25 C26 S27 => ∃ fs35 : List Value, h25 x0 = some (.inr (3, fs35)) ∧ (wq_ci G l d C26 S27 mX4_eatsSign [.ref x0, .int (44 : Int32)] h25 (fun y34 h31 C32 S33 => (¬ y34 = 0 → wq_T G l d mX4_names (wq_qv K) 4 [some (.ref x0), some (.ref x1), some (.int x2), none] [] h31 C32 S33) ∧ (y34 = 0 → K h31)))))))))))) ∧ (y4 = x2 → ∃ fs40 : List Value, h1 x0 = some (.inr (3, fs40)) ∧ (wq_cw G l d C2 S3 mX4_wrong [.ref x0, .int (5 : Int32)] h1 (fun h37 C38 S39 => ∃ fs45 : List Value, h37 x0 = some (.inr (3, fs45)) ∧ (wq_cw G l d C38 S39 mX4_on [.ref x0] h37 (fun h42 C43 S44 => ∃ fs51 : List Value, h42 x0 = some (.inr (3, fs51)) ∧ (wq_ci G l d C43 S44 mX4_isOver [.ref x0] h42 (fun y50 h47 C48 S49 => (¬ y50 = 0 → ∃ fs57 : List Value, h47 x0 = some (.inr (3, fs57)) ∧ (wq_ci G l d C48 S49 mX4_eatsSign [.ref x0, .int (44 : Int32)] h47 (fun y56 h53 C54 S55 => (¬ y56 = 0 → wq_T G l d mX4_names (wq_qv K) 4 [some (.ref x0), some (.ref x1), some (.int x2), none] [] h53 C54 S55) ∧ (y56 = 0 → K h53)))) ∧ (y50 = 0 → wq_gR h47 x3 [(7, 3)] (fun a59 => ∃ fs64 : List Value, h47 x1 = some (.inr (16, fs64)) ∧ (wq_ci G l d C48 S49 mJ2_add [.ref x1, .ref a59] h47 (fun y63 h60 C61 S62 => ∃ fs70 : List Value, h60 x0 = some (.inr (3, fs70)) ∧ (wq_ci G l d C61 S62 mX4_eatsSign [.ref x0, .int (44 : Int32)] h60 (fun y69 h66 C67 S68 => (¬ y69 = 0 → wq_T G l d mX4_names (wq_qv K) 4 [some (.ref x0), some (.ref x1), some (.int x2), none] [] h66 C67 S68) ∧ (y69 = 0 → K h66))))))))))))))))) : wq_T G l d mX4_names (wq_qv K) 56 [some (.ref x0), some (.ref x1), some (.int x2), some (.ref x3)] [] h C S := by
  refine wq_aload_n (pc := 56) dX4_names_56 rfl rfl ?_
  obtain ⟨fs5, w6, V⟩ := V
  refine clq722 (pc := 57) (As := []) (st := []) rfl dX4_names_57 rfl (Nat.le_of_ble_eq_true rfl) w6 V (fun C2 S3 => wx_ki (fun y4 h1 V => ?_))
  refine wq_iload_n (pc := 60) dX4_names_60 rfl rfl ?_
  refine wq_icmp_ne (pc := 61) (tgt := 69) dX4_names_61 rfl (fun c => ?_) (fun c => ?_)
  · have V := V.1 c
    refine wq_aload_n (pc := 69) dX4_names_69 rfl rfl ?_
    obtain ⟨fs10, w11, V⟩ := V
    refine clq680 (pc := 70) (As := []) (st := []) rfl dX4_names_70 rfl (Nat.le_of_ble_eq_true rfl) w11 V (fun C8 S9 => wx_kv (fun h7 V => ?_))
    refine wq_aload_n (pc := 73) dX4_names_73 rfl rfl ?_
    obtain ⟨fs16, w17, V⟩ := V
    refine clq676 (pc := 74) (As := []) (st := []) rfl dX4_names_74 rfl (Nat.le_of_ble_eq_true rfl) w17 V (fun C13 S14 => wx_ki (fun y15 h12 V => ?_))
    refine wq_if_ne (pc := 77) (tgt := 89) dX4_names_77 rfl (fun c => ?_) (fun c => ?_)
    · have V := V.1 c
      refine wq_aload_n (pc := 89) dX4_names_89 rfl rfl ?_
      refine wq_bipush (pc := 90) dX4_names_90 gstb44 ?_
      obtain ⟨fs22, w23, V⟩ := V
      refine clq793 (pc := 92) (As := [.int (44 : Int32)]) (st := []) rfl dX4_names_92 rfl (Nat.le_of_ble_eq_true rfl) w23 V (fun C19 S20 => wx_ki (fun y21 h18 V => ?_))
      refine wq_if_ne (pc := 95) (tgt := 4) dX4_names_95 rfl (fun c => ?_) (fun c => ?_)
      · have V := V.1 c
        exact wq_T.less V ⟨rfl, ⟨rfl, ⟨rfl, trivial⟩⟩⟩
      · have V := V.2 c
        refine wq_vret (pc := 98) dX4_names_98 rfl ⟨rfl, V⟩
    · have V := V.2 c
      refine wq_aload_n (pc := 80) dX4_names_80 rfl rfl ?_
      refine wq_aload_n (pc := 81) dX4_names_81 rfl rfl ?_
      refine gfq367 (pc := 82) rfl dX4_names_82 V (fun a24 V => ?_)
      obtain ⟨fs29, w30, V⟩ := V
      refine clq739 (pc := 85) (As := [.ref a24]) (st := []) rfl dX4_names_85 rfl (Nat.le_of_ble_eq_true rfl) w30 V (fun C26 S27 => wx_ki (fun y28 h25 V => ?_))
      refine wq_pop (pc := 88) dX4_names_88 rfl ?_
      refine wq_aload_n (pc := 89) dX4_names_89 rfl rfl ?_
      refine wq_bipush (pc := 90) dX4_names_90 gstb44 ?_
      obtain ⟨fs35, w36, V⟩ := V
      refine clq793 (pc := 92) (As := [.int (44 : Int32)]) (st := []) rfl dX4_names_92 rfl (Nat.le_of_ble_eq_true rfl) w36 V (fun C32 S33 => wx_ki (fun y34 h31 V => ?_))
      refine wq_if_ne (pc := 95) (tgt := 4) dX4_names_95 rfl (fun c => ?_) (fun c => ?_)
      · have V := V.1 c
        exact wq_T.less V ⟨rfl, ⟨rfl, ⟨rfl, trivial⟩⟩⟩
      · have V := V.2 c
        refine wq_vret (pc := 98) dX4_names_98 rfl ⟨rfl, V⟩
  · have V := V.2 c
    refine wq_aload_n (pc := 64) dX4_names_64 rfl rfl ?_
    refine wq_iconst (pc := 65) dX4_names_65 gsti5 ?_
    obtain ⟨fs40, w41, V⟩ := V
    refine clq672 (pc := 66) (As := [.int (5 : Int32)]) (st := []) rfl dX4_names_66 rfl (Nat.le_of_ble_eq_true rfl) w41 V (fun C38 S39 => wx_kv (fun h37 V => ?_))
    refine wq_aload_n (pc := 69) dX4_names_69 rfl rfl ?_
    obtain ⟨fs45, w46, V⟩ := V
    refine clq680 (pc := 70) (As := []) (st := []) rfl dX4_names_70 rfl (Nat.le_of_ble_eq_true rfl) w46 V (fun C43 S44 => wx_kv (fun h42 V => ?_))
    refine wq_aload_n (pc := 73) dX4_names_73 rfl rfl ?_
    obtain ⟨fs51, w52, V⟩ := V
    refine clq676 (pc := 74) (As := []) (st := []) rfl dX4_names_74 rfl (Nat.le_of_ble_eq_true rfl) w52 V (fun C48 S49 => wx_ki (fun y50 h47 V => ?_))
    refine wq_if_ne (pc := 77) (tgt := 89) dX4_names_77 rfl (fun c => ?_) (fun c => ?_)
    · have V := V.1 c
      refine wq_aload_n (pc := 89) dX4_names_89 rfl rfl ?_
      refine wq_bipush (pc := 90) dX4_names_90 gstb44 ?_
      obtain ⟨fs57, w58, V⟩ := V
      refine clq793 (pc := 92) (As := [.int (44 : Int32)]) (st := []) rfl dX4_names_92 rfl (Nat.le_of_ble_eq_true rfl) w58 V (fun C54 S55 => wx_ki (fun y56 h53 V => ?_))
      refine wq_if_ne (pc := 95) (tgt := 4) dX4_names_95 rfl (fun c => ?_) (fun c => ?_)
      · have V := V.1 c
        exact wq_T.less V ⟨rfl, ⟨rfl, ⟨rfl, trivial⟩⟩⟩
      · have V := V.2 c
        refine wq_vret (pc := 98) dX4_names_98 rfl ⟨rfl, V⟩
    · have V := V.2 c
      refine wq_aload_n (pc := 80) dX4_names_80 rfl rfl ?_
      refine wq_aload_n (pc := 81) dX4_names_81 rfl rfl ?_
      refine gfq367 (pc := 82) rfl dX4_names_82 V (fun a59 V => ?_)
      obtain ⟨fs64, w65, V⟩ := V
      refine clq739 (pc := 85) (As := [.ref a59]) (st := []) rfl dX4_names_85 rfl (Nat.le_of_ble_eq_true rfl) w65 V (fun C61 S62 => wx_ki (fun y63 h60 V => ?_))
      refine wq_pop (pc := 88) dX4_names_88 rfl ?_
      refine wq_aload_n (pc := 89) dX4_names_89 rfl rfl ?_
      refine wq_bipush (pc := 90) dX4_names_90 gstb44 ?_
      obtain ⟨fs70, w71, V⟩ := V
      refine clq793 (pc := 92) (As := [.int (44 : Int32)]) (st := []) rfl dX4_names_92 rfl (Nat.le_of_ble_eq_true rfl) w71 V (fun C67 S68 => wx_ki (fun y69 h66 V => ?_))
      refine wq_if_ne (pc := 95) (tgt := 4) dX4_names_95 rfl (fun c => ?_) (fun c => ?_)
      · have V := V.1 c
        exact wq_T.less V ⟨rfl, ⟨rfl, ⟨rfl, trivial⟩⟩⟩
      · have V := V.2 c
        refine wq_vret (pc := 98) dX4_names_98 rfl ⟨rfl, V⟩
theorem vX4_find_0 {G : wq_G} {l : Launch} {d C S : Nat} {K : Int32 → wq_H → Prop} {x0 : Nat} {x1 : Nat} {h : wq_H} (V : wq_T G l d mX4_find (wq_qi K) 2 [some (.ref x0), some (.ref x1), some (.int (0 : Int32))] [] h C S) : wq_T G l d mX4_find (wq_qi K) 0 [some (.ref x0), some (.ref x1), none] [] h C S := by
  refine wq_iconst (pc := 0) dX4_find_0 gsti0 ?_
  refine wq_istore_n (L' := [some (.ref x0), some (.ref x1), some (.int (0 : Int32))]) (pc := 1) dX4_find_1 rfl (Nat.le_of_ble_eq_true rfl) rfl ?_
  exact wq_T.less V ⟨rfl, ⟨rfl, ⟨rfl, trivial⟩⟩⟩
theorem vX4_find_2 {G : wq_G} {l : Launch} {d C S : Nat} {K : Int32 → wq_H → Prop} {x0 : Nat} {x1 : Nat} {x2 : Int32} {h : wq_H} (V : ∃ fs5 : List Value, h x0 = some (.inr (16, fs5)) ∧ (wq_ci G l d C S mJ2_size [.ref x0] h (fun y4 h1 C2 S3 => (y4 ≤ x2 → K (-1 : Int32) h1) ∧ (¬ y4 ≤ x2 → ∃ fs11 : List Value, h1 x0 = some (.inr (16, fs11)) ∧ (wq_cq G l d C2 S3 mJ2_get [.ref x0, .int x2] h1 (fun r10 h7 C8 S9 => wq_ct h7 r10 [18] (fun a13 => ∃ fs18 : List Value, h7 a13 = some (.inr (18, fs18)) ∧ (wq_ci G l d C8 S9 mJ5_equals [.ref a13, .ref x1] h7 (fun y17 h14 C15 S16 => (y17 = 0 → wq_T G l d mX4_find (wq_qi K) 2 [some (.ref x0), some (.ref x1), some (.int (x2 + (1 : Int32)))] [] h14 C15 S16) ∧ (¬ y17 = 0 → K x2 h14)))))))))) : wq_T G l d mX4_find (wq_qi K) 2 [some (.ref x0), some (.ref x1), some (.int x2)] [] h C S := by
  refine wq_iload_n (pc := 2) dX4_find_2 rfl rfl ?_
  refine wq_aload_n (pc := 3) dX4_find_3 rfl rfl ?_
  obtain ⟨fs5, w6, V⟩ := V
  refine clq722 (pc := 4) (As := []) (st := [.int x2]) rfl dX4_find_4 rfl (Nat.le_of_ble_eq_true rfl) w6 V (fun C2 S3 => wx_ki (fun y4 h1 V => ?_))
  refine wq_icmp_ge (pc := 7) (tgt := 33) dX4_find_7 rfl (fun c => ?_) (fun c => ?_)
  · have V := V.1 c
    refine wq_iconst (pc := 33) dX4_find_33 gstim1 ?_
    refine wq_iret (pc := 34) dX4_find_34 rfl ⟨_, rfl, V⟩
  · have V := V.2 c
    refine wq_aload_n (pc := 10) dX4_find_10 rfl rfl ?_
    refine wq_iload_n (pc := 11) dX4_find_11 rfl rfl ?_
    obtain ⟨fs11, w12, V⟩ := V
    refine clq726 (pc := 12) (As := [.int x2]) (st := []) rfl dX4_find_12 rfl (Nat.le_of_ble_eq_true rfl) w12 V (fun C8 S9 => wx_kq (fun r10 h7 V => ?_))
    refine ctq738 (r := r10) (pc := 15) rfl dX4_find_15 V (fun a13 V => ?_)
    refine wq_aload_n (pc := 18) dX4_find_18 rfl rfl ?_
    obtain ⟨fs18, w19, V⟩ := V
    refine clq654 (pc := 19) (As := [.ref x1]) (st := []) rfl dX4_find_19 rfl (Nat.le_of_ble_eq_true rfl) w19 V (fun C15 S16 => wx_ki (fun y17 h14 V => ?_))
    refine wq_if_eq (pc := 22) (tgt := 27) dX4_find_22 rfl (fun c => ?_) (fun c => ?_)
    · have V := V.1 c
      refine wq_iinc (L' := [some (.ref x0), some (.ref x1), some (.int (x2 + (1 : Int32)))]) (pc := 27) dX4_find_27 rfl (by rw [gsti1]) (Nat.le_of_ble_eq_true rfl) rfl ?_
      refine wq_goto (pc := 30) (tgt := 2) dX4_find_30 rfl ?_
      exact wq_T.less V ⟨rfl, ⟨rfl, ⟨rfl, trivial⟩⟩⟩
    · have V := V.2 c
      refine wq_iload_n (pc := 25) dX4_find_25 rfl rfl ?_
      refine wq_iret (pc := 26) dX4_find_26 rfl ⟨_, rfl, V⟩
theorem vX4_eatsSign_0 {G : wq_G} {l : Launch} {d C S : Nat} {K : Int32 → wq_H → Prop} {x0 : Nat} {x1 : Int32} {h : wq_H} (V : ∃ fs5 : List Value, h x0 = some (.inr (3, fs5)) ∧ (wq_ci G l d C S mX4_isOver [.ref x0] h (fun y4 h1 C2 S3 => (¬ y4 = 0 → K (0 : Int32) h1) ∧ (y4 = 0 → wq_gR h1 x0 [(3, 4)] (fun a7 => ∃ fs12 : List Value, h1 a7 = some (.inr (7, fs12)) ∧ (wq_ci G l d C2 S3 mX8_isSign [.ref a7, .int x1] h1 (fun y11 h8 C9 S10 => (¬ y11 = 0 → ∃ fs17 : List Value, h8 x0 = some (.inr (3, fs17)) ∧ (wq_cw G l d C9 S10 mX4_on [.ref x0] h8 (fun h14 C15 S16 => K (1 : Int32) h14))) ∧ (y11 = 0 → K (0 : Int32) h8)))))))) : wq_T G l d mX4_eatsSign (wq_qi K) 0 [some (.ref x0), some (.int x1)] [] h C S := by
  refine wq_aload_n (pc := 0) dX4_eatsSign_0 rfl rfl ?_
  obtain ⟨fs5, w6, V⟩ := V
  refine clq676 (pc := 1) (As := []) (st := []) rfl dX4_eatsSign_1 rfl (Nat.le_of_ble_eq_true rfl) w6 V (fun C2 S3 => wx_ki (fun y4 h1 V => ?_))
  refine wq_if_ne (pc := 4) (tgt := 18) dX4_eatsSign_4 rfl (fun c => ?_) (fun c => ?_)
  · have V := V.1 c
    refine wq_iconst (pc := 18) dX4_eatsSign_18 gsti0 ?_
    refine wq_zret (pc := 19) dX4_eatsSign_19 rfl gn_b0 ⟨_, rfl, V⟩
  · have V := V.2 c
    refine wq_aload_n (pc := 7) dX4_eatsSign_7 rfl rfl ?_
    refine gfq571 (pc := 8) rfl dX4_eatsSign_8 V (fun a7 V => ?_)
    refine wq_iload_n (pc := 11) dX4_eatsSign_11 rfl rfl ?_
    obtain ⟨fs12, w13, V⟩ := V
    refine clq797 (pc := 12) (As := [.int x1]) (st := []) rfl dX4_eatsSign_12 rfl (Nat.le_of_ble_eq_true rfl) w13 V (fun C9 S10 => wx_ki (fun y11 h8 V => ?_))
    refine wq_if_ne (pc := 15) (tgt := 20) dX4_eatsSign_15 rfl (fun c => ?_) (fun c => ?_)
    · have V := V.1 c
      refine wq_aload_n (pc := 20) dX4_eatsSign_20 rfl rfl ?_
      obtain ⟨fs17, w18, V⟩ := V
      refine clq680 (pc := 21) (As := []) (st := []) rfl dX4_eatsSign_21 rfl (Nat.le_of_ble_eq_true rfl) w18 V (fun C15 S16 => wx_kv (fun h14 V => ?_))
      refine wq_iconst (pc := 24) dX4_eatsSign_24 gsti1 ?_
      refine wq_zret (pc := 25) dX4_eatsSign_25 rfl gn_b1 ⟨_, rfl, V⟩
    · have V := V.2 c
      refine wq_iconst (pc := 18) dX4_eatsSign_18 gsti0 ?_
      refine wq_zret (pc := 19) dX4_eatsSign_19 rfl gn_b0 ⟨_, rfl, V⟩
theorem vX4_set_0 {G : wq_G} {l : Launch} {d C S : Nat} {K : wq_H → Prop} {x0 : Nat} {h : wq_H} (V : wq_gR h x0 [(3, 1)] (fun a1 => wq_gR h a1 [(5, 3)] (fun a2 => ∃ fs7 : List Value, h a2 = some (.inr (6, fs7)) ∧ (wq_ci G l d C S mX7_size [.ref a2] h (fun y6 h3 C4 S5 => (¬ y6 = (8 : Int32) → wq_gR h3 x0 [(3, 1)] (fun a9 => wq_gI h3 a9 [(5, 0)] (fun y10 => (¬ y10 = 0 → wq_T G l d mX4_set (wq_qv K) 36 [some (.ref x0), none, none, none, none, none] [] h3 C4 S5) ∧ (y10 = 0 → ∃ fs14 : List Value, h3 x0 = some (.inr (3, fs14)) ∧ (wq_cw G l d C4 S5 mX4_wrong [.ref x0, .int (6 : Int32)] h3 (fun h11 C12 S13 => wq_T G l d mX4_set (wq_qv K) 36 [some (.ref x0), none, none, none, none, none] [] h11 C12 S13)))))) ∧ (y6 = (8 : Int32) → ∃ fs19 : List Value, h3 x0 = some (.inr (3, fs19)) ∧ (wq_cw G l d C4 S5 mX4_wrong [.ref x0, .int (5 : Int32)] h3 (fun h16 C17 S18 => wq_gR h16 x0 [(3, 1)] (fun a21 => wq_gI h16 a21 [(5, 0)] (fun y22 => (¬ y22 = 0 → wq_T G l d mX4_set (wq_qv K) 36 [some (.ref x0), none, none, none, none, none] [] h16 C17 S18) ∧ (y22 = 0 → ∃ fs26 : List Value, h16 x0 = some (.inr (3, fs26)) ∧ (wq_cw G l d C17 S18 mX4_wrong [.ref x0, .int (6 : Int32)] h16 (fun h23 C24 S25 => wq_T G l d mX4_set (wq_qv K) 36 [some (.ref x0), none, none, none, none, none] [] h23 C24 S25))))))))))))) : wq_T G l d mX4_set (wq_qv K) 0 [some (.ref x0), none, none, none, none, none] [] h C S := by
  refine wq_aload_n (pc := 0) dX4_set_0 rfl rfl ?_
  refine gfq568 (pc := 1) rfl dX4_set_1 V (fun a1 V => ?_)
  refine gfq317 (pc := 4) rfl dX4_set_4 V (fun a2 V => ?_)
  obtain ⟨fs7, w8, V⟩ := V
  refine clq805 (pc := 7) (As := []) (st := []) rfl dX4_set_7 rfl (Nat.le_of_ble_eq_true rfl) w8 V (fun C4 S5 => wx_ki (fun y6 h3 V => ?_))
  refine wq_bipush (pc := 10) dX4_set_10 gstb8 ?_
  refine wq_icmp_ne (pc := 12) (tgt := 20) dX4_set_12 rfl (fun c => ?_) (fun c => ?_)
  · have V := V.1 c
    refine wq_aload_n (pc := 20) dX4_set_20 rfl rfl ?_
    refine gfq568 (pc := 21) rfl dX4_set_21 V (fun a9 V => ?_)
    refine gfq307 (pc := 24) rfl dX4_set_24 V (fun y10 V => ?_)
    refine wq_if_ne (pc := 27) (tgt := 36) dX4_set_27 rfl (fun c => ?_) (fun c => ?_)
    · have V := V.1 c
      exact wq_T.less V ⟨rfl, trivial⟩
    · have V := V.2 c
      refine wq_aload_n (pc := 30) dX4_set_30 rfl rfl ?_
      refine wq_bipush (pc := 31) dX4_set_31 gstb6 ?_
      obtain ⟨fs14, w15, V⟩ := V
      refine clq672 (pc := 33) (As := [.int (6 : Int32)]) (st := []) rfl dX4_set_33 rfl (Nat.le_of_ble_eq_true rfl) w15 V (fun C12 S13 => wx_kv (fun h11 V => ?_))
      exact wq_T.less V ⟨rfl, trivial⟩
  · have V := V.2 c
    refine wq_aload_n (pc := 15) dX4_set_15 rfl rfl ?_
    refine wq_iconst (pc := 16) dX4_set_16 gsti5 ?_
    obtain ⟨fs19, w20, V⟩ := V
    refine clq672 (pc := 17) (As := [.int (5 : Int32)]) (st := []) rfl dX4_set_17 rfl (Nat.le_of_ble_eq_true rfl) w20 V (fun C17 S18 => wx_kv (fun h16 V => ?_))
    refine wq_aload_n (pc := 20) dX4_set_20 rfl rfl ?_
    refine gfq568 (pc := 21) rfl dX4_set_21 V (fun a21 V => ?_)
    refine gfq307 (pc := 24) rfl dX4_set_24 V (fun y22 V => ?_)
    refine wq_if_ne (pc := 27) (tgt := 36) dX4_set_27 rfl (fun c => ?_) (fun c => ?_)
    · have V := V.1 c
      exact wq_T.less V ⟨rfl, trivial⟩
    · have V := V.2 c
      refine wq_aload_n (pc := 30) dX4_set_30 rfl rfl ?_
      refine wq_bipush (pc := 31) dX4_set_31 gstb6 ?_
      obtain ⟨fs26, w27, V⟩ := V
      refine clq672 (pc := 33) (As := [.int (6 : Int32)]) (st := []) rfl dX4_set_33 rfl (Nat.le_of_ble_eq_true rfl) w27 V (fun C24 S25 => wx_kv (fun h23 V => ?_))
      exact wq_T.less V ⟨rfl, trivial⟩
theorem vX4_set_36 {G : wq_G} {l : Launch} {d C S : Nat} {K : wq_H → Prop} {x0 : Nat} {h : wq_H} (V : ∃ fs4 : List Value, h x0 = some (.inr (3, fs4)) ∧ (wq_cw G l d C S mX4_on [.ref x0] h (fun h1 C2 S3 => wq_gR h1 x0 [(3, 2)] (fun a6 => ∃ fs11 : List Value, h1 x0 = some (.inr (3, fs11)) ∧ (wq_ci G l d C2 S3 mX4_told [.ref x0, .ref a6, .int (0 : Int32)] h1 (fun y10 h7 C8 S9 => wq_no G h7 8 [.null, .null, .int 0] 3 C8 S9 (fun a13 h14 => wq_cw G l d (C8 - 1) (S9 - 3) mX10_init [.ref a13, .int y10] h14 (fun h15 C16 S17 => ∃ fs22 : List Value, h15 x0 = some (.inr (3, fs22)) ∧ (wq_ci G l d C16 S17 mX4_eatsSign [.ref x0, .int (44 : Int32)] h15 (fun y21 h18 C19 S20 => (y21 = 0 → ∃ fs27 : List Value, h18 x0 = some (.inr (3, fs27)) ∧ (wq_cw G l d C19 S20 mX4_needs [.ref x0, .ref (G.2.2.2.2 22)] h18 (fun h24 C25 S26 => wq_T G l d mX4_set (wq_qv K) 110 [some (.ref x0), none, some (.ref a13), some (.int (0 : Int32)), some (.int (0 : Int32)), none] [] h24 C25 S26))) ∧ (¬ y21 = 0 → wq_no G h18 9 [.null, .null, .int 0, .int 0] 4 C19 S20 (fun a29 h30 => wq_gR h30 x0 [(3, 2)] (fun a31 => ∃ fs36 : List Value, h30 x0 = some (.inr (3, fs36)) ∧ (wq_ci G l d (C19 - 1) (S20 - 4) mX4_isOver [.ref x0] h30 (fun y35 h32 C33 S34 => (y35 = 0 → ∃ fs42 : List Value, h32 x0 = some (.inr (3, fs42)) ∧ (wq_ci G l d C33 S34 mX4_told [.ref x0, .ref a31, .int ((1 : Int32) <<< (y10 &&& 31))] h32 (fun y41 h38 C39 S40 => wq_cw G l d C39 S40 mX11_init [.ref a29, .int y10, .int y41] h38 (fun h44 C45 S46 => ∃ fs50 : List Value, h44 x0 = some (.inr (3, fs50)) ∧ (wq_cw G l d C45 S46 mX4_needs [.ref x0, .ref (G.2.2.2.2 22)] h44 (fun h47 C48 S49 => wq_T G l d mX4_set (wq_qv K) 110 [some (.ref x0), none, some (.ref a29), some (.int (0 : Int32)), some (.int (0 : Int32)), none] [] h47 C48 S49)))))) ∧ (¬ y35 = 0 → ∃ fs56 : List Value, h32 x0 = some (.inr (3, fs56)) ∧ (wq_ci G l d C33 S34 mX4_told [.ref x0, .ref a31, .int (0 : Int32)] h32 (fun y55 h52 C53 S54 => wq_cw G l d C53 S54 mX11_init [.ref a29, .int y10, .int y55] h52 (fun h58 C59 S60 => ∃ fs64 : List Value, h58 x0 = some (.inr (3, fs64)) ∧ (wq_cw G l d C59 S60 mX4_needs [.ref x0, .ref (G.2.2.2.2 22)] h58 (fun h61 C62 S63 => wq_T G l d mX4_set (wq_qv K) 110 [some (.ref x0), none, some (.ref a29), some (.int (0 : Int32)), some (.int (0 : Int32)), none] [] h61 C62 S63))))))))))))))))))))) : wq_T G l d mX4_set (wq_qv K) 36 [some (.ref x0), none, none, none, none, none] [] h C S := by
  refine wq_aload_n (pc := 36) dX4_set_36 rfl rfl ?_
  obtain ⟨fs4, w5, V⟩ := V
  refine clq680 (pc := 37) (As := []) (st := []) rfl dX4_set_37 rfl (Nat.le_of_ble_eq_true rfl) w5 V (fun C2 S3 => wx_kv (fun h1 V => ?_))
  refine wq_aload_n (pc := 40) dX4_set_40 rfl rfl ?_
  refine wq_aload_n (pc := 41) dX4_set_41 rfl rfl ?_
  refine gfq569 (pc := 42) rfl dX4_set_42 V (fun a6 V => ?_)
  refine wq_iconst (pc := 45) dX4_set_45 gsti0 ?_
  obtain ⟨fs11, w12, V⟩ := V
  refine clq810 (pc := 46) (As := [.ref a6, .int (0 : Int32)]) (st := []) rfl dX4_set_46 rfl (Nat.le_of_ble_eq_true rfl) w12 V (fun C8 S9 => wx_ki (fun y10 h7 V => ?_))
  refine wq_istore_n (L' := [some (.ref x0), some (.int y10), none, none, none, none]) (pc := 49) dX4_set_49 rfl (Nat.le_of_ble_eq_true rfl) rfl ?_
  refine nwq821 (pc := 50) rfl dX4_set_50 V (fun a13 h14 V => ?_)
  refine wq_dup (pc := 53) dX4_set_53 rfl ?_
  refine wq_iload_n (pc := 54) dX4_set_54 rfl rfl ?_
  refine clq823 (pc := 55) (As := [.int y10]) (st := [.ref a13]) rfl dX4_set_55 rfl (Nat.le_of_ble_eq_true rfl) V (fun C16 S17 => wx_kv (fun h15 V => ?_))
  refine wq_astore_n (L' := [some (.ref x0), some (.int y10), some (.ref a13), none, none, none]) (pc := 58) dX4_set_58 rfl (Nat.le_of_ble_eq_true rfl) rfl ?_
  refine wq_aload_n (pc := 59) dX4_set_59 rfl rfl ?_
  refine wq_bipush (pc := 60) dX4_set_60 gstb44 ?_
  obtain ⟨fs22, w23, V⟩ := V
  refine clq793 (pc := 62) (As := [.int (44 : Int32)]) (st := []) rfl dX4_set_62 rfl (Nat.le_of_ble_eq_true rfl) w23 V (fun C19 S20 => wx_ki (fun y21 h18 V => ?_))
  refine wq_if_eq (pc := 65) (tgt := 99) dX4_set_65 rfl (fun c => ?_) (fun c => ?_)
  · have V := V.1 c
    refine wq_aload_n (pc := 99) dX4_set_99 rfl rfl ?_
    refine wq_ldcS (a := G.2.2.2.2 22) (pc := 100) (gstr_X4_197 G) dX4_set_100 ?_
    obtain ⟨fs27, w28, V⟩ := V
    refine clq685 (pc := 102) (As := [.ref (G.2.2.2.2 22)]) (st := []) rfl dX4_set_102 rfl (Nat.le_of_ble_eq_true rfl) w28 V (fun C25 S26 => wx_kv (fun h24 V => ?_))
    refine wq_iconst (pc := 105) dX4_set_105 gsti0 ?_
    refine wq_istore_n (L' := [some (.ref x0), some (.int y10), some (.ref a13), some (.int (0 : Int32)), none, none]) (pc := 106) dX4_set_106 rfl (Nat.le_of_ble_eq_true rfl) rfl ?_
    refine wq_iconst (pc := 107) dX4_set_107 gsti0 ?_
    refine wq_istore (L' := [some (.ref x0), some (.int y10), some (.ref a13), some (.int (0 : Int32)), some (.int (0 : Int32)), none]) (pc := 108) dX4_set_108 (Nat.le_of_ble_eq_true rfl) rfl ?_
    exact wq_T.less V ⟨rfl, ⟨rfl, ⟨rfl, ⟨rfl, trivial⟩⟩⟩⟩
  · have V := V.2 c
    refine nwq851 (pc := 68) rfl dX4_set_68 V (fun a29 h30 V => ?_)
    refine wq_dup (pc := 71) dX4_set_71 rfl ?_
    refine wq_iload_n (pc := 72) dX4_set_72 rfl rfl ?_
    refine wq_aload_n (pc := 73) dX4_set_73 rfl rfl ?_
    refine wq_aload_n (pc := 74) dX4_set_74 rfl rfl ?_
    refine gfq569 (pc := 75) rfl dX4_set_75 V (fun a31 V => ?_)
    refine wq_aload_n (pc := 78) dX4_set_78 rfl rfl ?_
    obtain ⟨fs36, w37, V⟩ := V
    refine clq676 (pc := 79) (As := []) (st := [.ref a31, .ref x0, .int y10, .ref a29, .ref a29]) rfl dX4_set_79 rfl (Nat.le_of_ble_eq_true rfl) w37 V (fun C33 S34 => wx_ki (fun y35 h32 V => ?_))
    refine wq_if_eq (pc := 82) (tgt := 89) dX4_set_82 rfl (fun c => ?_) (fun c => ?_)
    · have V := V.1 c
      refine wq_iconst (pc := 89) dX4_set_89 gsti1 ?_
      refine wq_iload_n (pc := 90) dX4_set_90 rfl rfl ?_
      refine wq_ishl (pc := 91) dX4_set_91 ?_
      obtain ⟨fs42, w43, V⟩ := V
      refine clq810 (pc := 92) (As := [.ref a31, .int ((1 : Int32) <<< (y10 &&& 31))]) (st := [.int y10, .ref a29, .ref a29]) rfl dX4_set_92 rfl (Nat.le_of_ble_eq_true rfl) w43 V (fun C39 S40 => wx_ki (fun y41 h38 V => ?_))
      refine clq853 (pc := 95) (As := [.int y10, .int y41]) (st := [.ref a29]) rfl dX4_set_95 rfl (Nat.le_of_ble_eq_true rfl) V (fun C45 S46 => wx_kv (fun h44 V => ?_))
      refine wq_astore_n (L' := [some (.ref x0), some (.int y10), some (.ref a29), none, none, none]) (pc := 98) dX4_set_98 rfl (Nat.le_of_ble_eq_true rfl) rfl ?_
      refine wq_aload_n (pc := 99) dX4_set_99 rfl rfl ?_
      refine wq_ldcS (a := G.2.2.2.2 22) (pc := 100) (gstr_X4_197 G) dX4_set_100 ?_
      obtain ⟨fs50, w51, V⟩ := V
      refine clq685 (pc := 102) (As := [.ref (G.2.2.2.2 22)]) (st := []) rfl dX4_set_102 rfl (Nat.le_of_ble_eq_true rfl) w51 V (fun C48 S49 => wx_kv (fun h47 V => ?_))
      refine wq_iconst (pc := 105) dX4_set_105 gsti0 ?_
      refine wq_istore_n (L' := [some (.ref x0), some (.int y10), some (.ref a29), some (.int (0 : Int32)), none, none]) (pc := 106) dX4_set_106 rfl (Nat.le_of_ble_eq_true rfl) rfl ?_
      refine wq_iconst (pc := 107) dX4_set_107 gsti0 ?_
      refine wq_istore (L' := [some (.ref x0), some (.int y10), some (.ref a29), some (.int (0 : Int32)), some (.int (0 : Int32)), none]) (pc := 108) dX4_set_108 (Nat.le_of_ble_eq_true rfl) rfl ?_
      exact wq_T.less V ⟨rfl, ⟨rfl, ⟨rfl, ⟨rfl, trivial⟩⟩⟩⟩
    · have V := V.2 c
      refine wq_iconst (pc := 85) dX4_set_85 gsti0 ?_
      refine wq_goto (pc := 86) (tgt := 92) dX4_set_86 rfl ?_
      obtain ⟨fs56, w57, V⟩ := V
      refine clq810 (pc := 92) (As := [.ref a31, .int (0 : Int32)]) (st := [.int y10, .ref a29, .ref a29]) rfl dX4_set_92 rfl (Nat.le_of_ble_eq_true rfl) w57 V (fun C53 S54 => wx_ki (fun y55 h52 V => ?_))
      refine clq853 (pc := 95) (As := [.int y10, .int y55]) (st := [.ref a29]) rfl dX4_set_95 rfl (Nat.le_of_ble_eq_true rfl) V (fun C59 S60 => wx_kv (fun h58 V => ?_))
      refine wq_astore_n (L' := [some (.ref x0), some (.int y10), some (.ref a29), none, none, none]) (pc := 98) dX4_set_98 rfl (Nat.le_of_ble_eq_true rfl) rfl ?_
      refine wq_aload_n (pc := 99) dX4_set_99 rfl rfl ?_
      refine wq_ldcS (a := G.2.2.2.2 22) (pc := 100) (gstr_X4_197 G) dX4_set_100 ?_
      obtain ⟨fs64, w65, V⟩ := V
      refine clq685 (pc := 102) (As := [.ref (G.2.2.2.2 22)]) (st := []) rfl dX4_set_102 rfl (Nat.le_of_ble_eq_true rfl) w65 V (fun C62 S63 => wx_kv (fun h61 V => ?_))
      refine wq_iconst (pc := 105) dX4_set_105 gsti0 ?_
      refine wq_istore_n (L' := [some (.ref x0), some (.int y10), some (.ref a29), some (.int (0 : Int32)), none, none]) (pc := 106) dX4_set_106 rfl (Nat.le_of_ble_eq_true rfl) rfl ?_
      refine wq_iconst (pc := 107) dX4_set_107 gsti0 ?_
      refine wq_istore (L' := [some (.ref x0), some (.int y10), some (.ref a29), some (.int (0 : Int32)), some (.int (0 : Int32)), none]) (pc := 108) dX4_set_108 (Nat.le_of_ble_eq_true rfl) rfl ?_
      exact wq_T.less V ⟨rfl, ⟨rfl, ⟨rfl, ⟨rfl, trivial⟩⟩⟩⟩
theorem vX4_set_110 {G : wq_G} {l : Launch} {d C S : Nat} {K : wq_H → Prop} {x0 : Nat} {x2 : Nat} {x3 : Int32} {x4 : Int32} {h : wq_H} (V : (∃ fs5 : List Value, h x2 = some (.inr (8, fs5)) ∧ wq_ci G l d C S mX10_outcomes [.ref x2] h (fun y4 h1 C2 S3 => (y4 ≤ x4 → ∃ fs11 : List Value, h1 x0 = some (.inr (3, fs11)) ∧ (wq_ci G l d C2 S3 mX4_isOver [.ref x0] h1 (fun y10 h7 C8 S9 => (¬ y10 = 0 → K h7) ∧ (y10 = 0 → wq_gR h7 x0 [(3, 1)] (fun a13 => wq_gR h7 a13 [(5, 3)] (fun a14 => wq_gR h7 a14 [(6, 0)] (fun a15 => ∃ fs20 : List Value, h7 a15 = some (.inr (16, fs20)) ∧ (wq_ci G l d C8 S9 mJ2_add [.ref a15, .ref x2] h7 (fun y19 h16 C17 S18 => K h16))))))))) ∧ (¬ y4 ≤ x4 → ∃ fs26 : List Value, h1 x0 = some (.inr (3, fs26)) ∧ (wq_ci G l d C2 S3 mX4_isOver [.ref x0] h1 (fun y25 h22 C23 S24 => (¬ y25 = 0 → ∃ fs32 : List Value, h22 x0 = some (.inr (3, fs32)) ∧ (wq_ci G l d C23 S24 mX4_isOver [.ref x0] h22 (fun y31 h28 C29 S30 => (¬ y31 = 0 → K h28) ∧ (y31 = 0 → wq_gR h28 x0 [(3, 1)] (fun a34 => wq_gR h28 a34 [(5, 3)] (fun a35 => wq_gR h28 a35 [(6, 0)] (fun a36 => ∃ fs41 : List Value, h28 a36 = some (.inr (16, fs41)) ∧ (wq_ci G l d C29 S30 mJ2_add [.ref a36, .ref x2] h28 (fun y40 h37 C38 S39 => K h37))))))))) ∧ (y25 = 0 → (x4 ≤ 0 → ∃ fs47 : List Value, h22 x0 = some (.inr (3, fs47)) ∧ (wq_ci G l d C23 S24 mX4_bounded [.ref x0, .int (0 : Int32), .int (60 : Int32)] h22 (fun y46 h43 C44 S45 => (∃ fs53 : List Value, h43 x2 = some (.inr (8, fs53)) ∧ wq_ci G l d C44 S45 mX10_outcomes [.ref x2] h43 (fun y52 h49 C50 S51 => (¬ x4 = (y52 - (1 : Int32)) → ∃ fs58 : List Value, h49 x0 = some (.inr (3, fs58)) ∧ (wq_cw G l d C50 S51 mX4_on [.ref x0] h49 (fun h55 C56 S57 => wq_gR h55 x2 [(8, 0), (9, 0)] (fun a60 => wq_si G h55 a60 x4 y46 (fun h61 => wq_T G l d mX4_set (wq_qv K) 110 [some (.ref x0), none, some (.ref x2), some (.int (x3 + y46)), some (.int (x4 + (1 : Int32))), none] [] h61 C56 S57))))) ∧ (x4 = (y52 - (1 : Int32)) → wq_gR h49 x0 [(3, 1)] (fun a62 => wq_gI h49 a62 [(5, 0)] (fun y63 => ((x3 + y46) = y63 → ∃ fs67 : List Value, h49 x0 = some (.inr (3, fs67)) ∧ (wq_cw G l d C50 S51 mX4_on [.ref x0] h49 (fun h64 C65 S66 => wq_gR h64 x2 [(8, 0), (9, 0)] (fun a69 => wq_si G h64 a69 x4 y46 (fun h70 => wq_T G l d mX4_set (wq_qv K) 110 [some (.ref x0), none, some (.ref x2), some (.int (x3 + y46)), some (.int (x4 + (1 : Int32))), none] [] h70 C65 S66))))) ∧ (¬ (x3 + y46) = y63 → ∃ fs74 : List Value, h49 x0 = some (.inr (3, fs74)) ∧ (wq_cw G l d C50 S51 mX4_wrong [.ref x0, .int (4 : Int32)] h49 (fun h71 C72 S73 => ∃ fs79 : List Value, h71 x0 = some (.inr (3, fs79)) ∧ (wq_cw G l d C72 S73 mX4_on [.ref x0] h71 (fun h76 C77 S78 => wq_gR h76 x2 [(8, 0), (9, 0)] (fun a81 => wq_si G h76 a81 x4 y46 (fun h82 => wq_T G l d mX4_set (wq_qv K) 110 [some (.ref x0), none, some (.ref x2), some (.int (x3 + y46)), some (.int (x4 + (1 : Int32))), none] [] h82 C77 S78)))))))))))) ∨ (∃ fs53 : List Value, h43 x2 = some (.inr (9, fs53)) ∧ wq_ci G l d C44 S45 mX11_outcomes [.ref x2] h43 (fun y52 h49 C50 S51 => (¬ x4 = (y52 - (1 : Int32)) → ∃ fs58 : List Value, h49 x0 = some (.inr (3, fs58)) ∧ (wq_cw G l d C50 S51 mX4_on [.ref x0] h49 (fun h55 C56 S57 => wq_gR h55 x2 [(8, 0), (9, 0)] (fun a60 => wq_si G h55 a60 x4 y46 (fun h61 => wq_T G l d mX4_set (wq_qv K) 110 [some (.ref x0), none, some (.ref x2), some (.int (x3 + y46)), some (.int (x4 + (1 : Int32))), none] [] h61 C56 S57))))) ∧ (x4 = (y52 - (1 : Int32)) → wq_gR h49 x0 [(3, 1)] (fun a62 => wq_gI h49 a62 [(5, 0)] (fun y63 => ((x3 + y46) = y63 → ∃ fs67 : List Value, h49 x0 = some (.inr (3, fs67)) ∧ (wq_cw G l d C50 S51 mX4_on [.ref x0] h49 (fun h64 C65 S66 => wq_gR h64 x2 [(8, 0), (9, 0)] (fun a69 => wq_si G h64 a69 x4 y46 (fun h70 => wq_T G l d mX4_set (wq_qv K) 110 [some (.ref x0), none, some (.ref x2), some (.int (x3 + y46)), some (.int (x4 + (1 : Int32))), none] [] h70 C65 S66))))) ∧ (¬ (x3 + y46) = y63 → ∃ fs74 : List Value, h49 x0 = some (.inr (3, fs74)) ∧ (wq_cw G l d C50 S51 mX4_wrong [.ref x0, .int (4 : Int32)] h49 (fun h71 C72 S73 => ∃ fs79 : List Value, h71 x0 = some (.inr (3, fs79)) ∧ (wq_cw G l d C72 S73 mX4_on [.ref x0] h71 (fun h76 C77 S78 => wq_gR h76 x2 [(8, 0), (9, 0)] (fun a81 => wq_si G h76 a81 x4 y46 (fun h82 => wq_T G l d mX4_set (wq_qv K) 110 [some (.ref x0), none, some (.ref x2), some (.int (x3 + y46)), some (.int (x4 + (1 : Int32))), none] [] h82 C77 S78))))))))))))))) ∧ (¬ x4 ≤ 0 → ∃ fs86 : List Value, h22 x0 = some (.inr (3, fs86)) ∧ (wq_cw G l d C23 S24 mX4_needsSign [.ref x0, .int (44 : Int32)] h22 (fun h83 C84 S85 => ∃ fs92 : List Value, h83 x0 = some (.inr (3, fs92)) ∧ (wq_ci G l d C84 S85 mX4_bounded [.ref x0, .int (0 : Int32), .int (60 : Int32)] h83 (fun y91 h88 C89 S90 => (∃ fs98 : List Value, h88 x2 = some (.inr (8, fs98)) ∧ wq_ci G l d C89 S90 mX10_outcomes [.ref x2] h88 (fun y97 h94 C95 S96 => (¬ x4 = (y97 - (1 : Int32)) → ∃ fs103 : List Value, h94 x0 = some (.inr (3, fs103)) ∧ (wq_cw G l d C95 S96 mX4_on [.ref x0] h94 (fun h100 C101 S102 => wq_gR h100 x2 [(8, 0), (9, 0)] (fun a105 => wq_si G h100 a105 x4 y91 (fun h106 => wq_T G l d mX4_set (wq_qv K) 110 [some (.ref x0), none, some (.ref x2), some (.int (x3 + y91)), some (.int (x4 + (1 : Int32))), none] [] h106 C101 S102))))) ∧ (x4 = (y97 - (1 : Int32)) → wq_gR h94 x0 [(3, 1)] (fun a107 => wq_gI h94 a107 [(5, 0)] (fun y108 => ((x3 + y91) = y108 → ∃ fs112 : List Value, h94 x0 = some (.inr (3, fs112)) ∧ (wq_cw G l d C95 S96 mX4_on [.ref x0] h94 (fun h109 C110 S111 => wq_gR h109 x2 [(8, 0), (9, 0)] (fun a114 => wq_si G h109 a114 x4 y91 (fun h115 => wq_T G l d mX4_set (wq_qv K) 110 [some (.ref x0), none, some (.ref x2), some (.int (x3 + y91)), some (.int (x4 + (1 : Int32))), none] [] h115 C110 S111))))) ∧ (¬ (x3 + y91) = y108 → ∃ fs119 : List Value, h94 x0 = some (.inr (3, fs119)) ∧ (wq_cw G l d C95 S96 mX4_wrong [.ref x0, .int (4 : Int32)] h94 (fun h116 C117 S118 => ∃ fs124 : List Value, h116 x0 = some (.inr (3, fs124)) ∧ (wq_cw G l d C117 S118 mX4_on [.ref x0] h116 (fun h121 C122 S123 => wq_gR h121 x2 [(8, 0), (9, 0)] (fun a126 => wq_si G h121 a126 x4 y91 (fun h127 => wq_T G l d mX4_set (wq_qv K) 110 [some (.ref x0), none, some (.ref x2), some (.int (x3 + y91)), some (.int (x4 + (1 : Int32))), none] [] h127 C122 S123)))))))))))) ∨ (∃ fs98 : List Value, h88 x2 = some (.inr (9, fs98)) ∧ wq_ci G l d C89 S90 mX11_outcomes [.ref x2] h88 (fun y97 h94 C95 S96 => (¬ x4 = (y97 - (1 : Int32)) → ∃ fs103 : List Value, h94 x0 = some (.inr (3, fs103)) ∧ (wq_cw G l d C95 S96 mX4_on [.ref x0] h94 (fun h100 C101 S102 => wq_gR h100 x2 [(8, 0), (9, 0)] (fun a105 => wq_si G h100 a105 x4 y91 (fun h106 => wq_T G l d mX4_set (wq_qv K) 110 [some (.ref x0), none, some (.ref x2), some (.int (x3 + y91)), some (.int (x4 + (1 : Int32))), none] [] h106 C101 S102))))) ∧ (x4 = (y97 - (1 : Int32)) → wq_gR h94 x0 [(3, 1)] (fun a107 => wq_gI h94 a107 [(5, 0)] (fun y108 => ((x3 + y91) = y108 → ∃ fs112 : List Value, h94 x0 = some (.inr (3, fs112)) ∧ (wq_cw G l d C95 S96 mX4_on [.ref x0] h94 (fun h109 C110 S111 => wq_gR h109 x2 [(8, 0), (9, 0)] (fun a114 => wq_si G h109 a114 x4 y91 (fun h115 => wq_T G l d mX4_set (wq_qv K) 110 [some (.ref x0), none, some (.ref x2), some (.int (x3 + y91)), some (.int (x4 + (1 : Int32))), none] [] h115 C110 S111))))) ∧ (¬ (x3 + y91) = y108 → ∃ fs119 : List Value, h94 x0 = some (.inr (3, fs119)) ∧ (wq_cw G l d C95 S96 mX4_wrong [.ref x0, .int (4 : Int32)] h94 (fun h116 C117 S118 => ∃ fs124 : List Value, h116 x0 = some (.inr (3, fs124)) ∧ (wq_cw G l d C117 S118 mX4_on [.ref x0] h116 (fun h121 C122 S123 => wq_gR h121 x2 [(8, 0), (9, 0)] (fun a126 => wq_si G h121 a126 x4 y91 (fun h127 => wq_T G l d mX4_set (wq_qv K) 110 [some (.ref x0), none, some (.ref x2), some (.int (x3 + y91)), some (.int (x4 + (1 : Int32))), none] [] h127 C122 S123))))))))))))))))))))))) ∨ (∃ fs5 : List Value, h x2 = some (.inr (9, fs5)) ∧ wq_ci G l d C S mX11_outcomes [.ref x2] h (fun y4 h1 C2 S3 => (y4 ≤ x4 → ∃ fs11 : List Value, h1 x0 = some (.inr (3, fs11)) ∧ (wq_ci G l d C2 S3 mX4_isOver [.ref x0] h1 (fun y10 h7 C8 S9 => (¬ y10 = 0 → K h7) ∧ (y10 = 0 → wq_gR h7 x0 [(3, 1)] (fun a13 => wq_gR h7 a13 [(5, 3)] (fun a14 => wq_gR h7 a14 [(6, 0)] (fun a15 => ∃ fs20 : List Value, h7 a15 = some (.inr (16, fs20)) ∧ (wq_ci G l d C8 S9 mJ2_add [.ref a15, .ref x2] h7 (fun y19 h16 C17 S18 => K h16))))))))) ∧ (¬ y4 ≤ x4 → ∃ fs26 : List Value, h1 x0 = some (.inr (3, fs26)) ∧ (wq_ci G l d C2 S3 mX4_isOver [.ref x0] h1 (fun y25 h22 C23 S24 => (¬ y25 = 0 → ∃ fs32 : List Value, h22 x0 = some (.inr (3, fs32)) ∧ (wq_ci G l d C23 S24 mX4_isOver [.ref x0] h22 (fun y31 h28 C29 S30 => (¬ y31 = 0 → K h28) ∧ (y31 = 0 → wq_gR h28 x0 [(3, 1)] (fun a34 => wq_gR h28 a34 [(5, 3)] (fun a35 => wq_gR h28 a35 [(6, 0)] (fun a36 => ∃ fs41 : List Value, h28 a36 = some (.inr (16, fs41)) ∧ (wq_ci G l d C29 S30 mJ2_add [.ref a36, .ref x2] h28 (fun y40 h37 C38 S39 => K h37))))))))) ∧ (y25 = 0 → (x4 ≤ 0 → ∃ fs47 : List Value, h22 x0 = some (.inr (3, fs47)) ∧ (wq_ci G l d C23 S24 mX4_bounded [.ref x0, .int (0 : Int32), .int (60 : Int32)] h22 (fun y46 h43 C44 S45 => (∃ fs53 : List Value, h43 x2 = some (.inr (8, fs53)) ∧ wq_ci G l d C44 S45 mX10_outcomes [.ref x2] h43 (fun y52 h49 C50 S51 => (¬ x4 = (y52 - (1 : Int32)) → ∃ fs58 : List Value, h49 x0 = some (.inr (3, fs58)) ∧ (wq_cw G l d C50 S51 mX4_on [.ref x0] h49 (fun h55 C56 S57 => wq_gR h55 x2 [(8, 0), (9, 0)] (fun a60 => wq_si G h55 a60 x4 y46 (fun h61 => wq_T G l d mX4_set (wq_qv K) 110 [some (.ref x0), none, some (.ref x2), some (.int (x3 + y46)), some (.int (x4 + (1 : Int32))), none] [] h61 C56 S57))))) ∧ (x4 = (y52 - (1 : Int32)) → wq_gR h49 x0 [(3, 1)] (fun a62 => wq_gI h49 a62 [(5, 0)] (fun y63 => ((x3 + y46) = y63 → ∃ fs67 : List Value, h49 x0 = some (.inr (3, fs67)) ∧ (wq_cw G l d C50 S51 mX4_on [.ref x0] h49 (fun h64 C65 S66 => wq_gR h64 x2 [(8, 0), (9, 0)] (fun a69 => wq_si G h64 a69 x4 y46 (fun h70 => wq_T G l d mX4_set (wq_qv K) 110 [some (.ref x0), none, some (.ref x2), some (.int (x3 + y46)), some (.int (x4 + (1 : Int32))), none] [] h70 C65 S66))))) ∧ (¬ (x3 + y46) = y63 → ∃ fs74 : List Value, h49 x0 = some (.inr (3, fs74)) ∧ (wq_cw G l d C50 S51 mX4_wrong [.ref x0, .int (4 : Int32)] h49 (fun h71 C72 S73 => ∃ fs79 : List Value, h71 x0 = some (.inr (3, fs79)) ∧ (wq_cw G l d C72 S73 mX4_on [.ref x0] h71 (fun h76 C77 S78 => wq_gR h76 x2 [(8, 0), (9, 0)] (fun a81 => wq_si G h76 a81 x4 y46 (fun h82 => wq_T G l d mX4_set (wq_qv K) 110 [some (.ref x0), none, some (.ref x2), some (.int (x3 + y46)), some (.int (x4 + (1 : Int32))), none] [] h82 C77 S78)))))))))))) ∨ (∃ fs53 : List Value, h43 x2 = some (.inr (9, fs53)) ∧ wq_ci G l d C44 S45 mX11_outcomes [.ref x2] h43 (fun y52 h49 C50 S51 => (¬ x4 = (y52 - (1 : Int32)) → ∃ fs58 : List Value, h49 x0 = some (.inr (3, fs58)) ∧ (wq_cw G l d C50 S51 mX4_on [.ref x0] h49 (fun h55 C56 S57 => wq_gR h55 x2 [(8, 0), (9, 0)] (fun a60 => wq_si G h55 a60 x4 y46 (fun h61 => wq_T G l d mX4_set (wq_qv K) 110 [some (.ref x0), none, some (.ref x2), some (.int (x3 + y46)), some (.int (x4 + (1 : Int32))), none] [] h61 C56 S57))))) ∧ (x4 = (y52 - (1 : Int32)) → wq_gR h49 x0 [(3, 1)] (fun a62 => wq_gI h49 a62 [(5, 0)] (fun y63 => ((x3 + y46) = y63 → ∃ fs67 : List Value, h49 x0 = some (.inr (3, fs67)) ∧ (wq_cw G l d C50 S51 mX4_on [.ref x0] h49 (fun h64 C65 S66 => wq_gR h64 x2 [(8, 0), (9, 0)] (fun a69 => wq_si G h64 a69 x4 y46 (fun h70 => wq_T G l d mX4_set (wq_qv K) 110 [some (.ref x0), none, some (.ref x2), some (.int (x3 + y46)), some (.int (x4 + (1 : Int32))), none] [] h70 C65 S66))))) ∧ (¬ (x3 + y46) = y63 → ∃ fs74 : List Value, h49 x0 = some (.inr (3, fs74)) ∧ (wq_cw G l d C50 S51 mX4_wrong [.ref x0, .int (4 : Int32)] h49 (fun h71 C72 S73 => ∃ fs79 : List Value, h71 x0 = some (.inr (3, fs79)) ∧ (wq_cw G l d C72 S73 mX4_on [.ref x0] h71 (fun h76 C77 S78 => wq_gR h76 x2 [(8, 0), (9, 0)] (fun a81 => wq_si G h76 a81 x4 y46 (fun h82 => wq_T G l d mX4_set (wq_qv K) 110 [some (.ref x0), none, some (.ref x2), some (.int (x3 + y46)), some (.int (x4 + (1 : Int32))), none] [] h82 C77 S78))))))))))))))) ∧ (¬ x4 ≤ 0 → ∃ fs86 : List Value, h22 x0 = some (.inr (3, fs86)) ∧ (wq_cw G l d C23 S24 mX4_needsSign [.ref x0, .int (44 : Int32)] h22 (fun h83 C84 S85 => ∃ fs92 : List Value, h83 x0 = some (.inr (3, fs92)) ∧ (wq_ci G l d C84 S85 mX4_bounded [.ref x0, .int (0 : Int32), .int (60 : Int32)] h83 (fun y91 h88 C89 S90 => (∃ fs98 : List Value, h88 x2 = some (.inr (8, fs98)) ∧ wq_ci G l d C89 S90 mX10_outcomes [.ref x2] h88 (fun y97 h94 C95 S96 => (¬ x4 = (y97 - (1 : Int32)) → ∃ fs103 : List Value, h94 x0 = some (.inr (3, fs103)) ∧ (wq_cw G l d C95 S96 mX4_on [.ref x0] h94 (fun h100 C101 S102 => wq_gR h100 x2 [(8, 0), (9, 0)] (fun a105 => wq_si G h100 a105 x4 y91 (fun h106 => wq_T G l d mX4_set (wq_qv K) 110 [some (.ref x0), none, some (.ref x2), some (.int (x3 + y91)), some (.int (x4 + (1 : Int32))), none] [] h106 C101 S102))))) ∧ (x4 = (y97 - (1 : Int32)) → wq_gR h94 x0 [(3, 1)] (fun a107 => wq_gI h94 a107 [(5, 0)] (fun y108 => ((x3 + y91) = y108 → ∃ fs112 : List Value, h94 x0 = some (.inr (3, fs112)) ∧ (wq_cw G l d C95 S96 mX4_on [.ref x0] h94 (fun h109 C110 S111 => wq_gR h109 x2 [(8, 0), (9, 0)] (fun a114 => wq_si G h109 a114 x4 y91 (fun h115 => wq_T G l d mX4_set (wq_qv K) 110 [some (.ref x0), none, some (.ref x2), some (.int (x3 + y91)), some (.int (x4 + (1 : Int32))), none] [] h115 C110 S111))))) ∧ (¬ (x3 + y91) = y108 → ∃ fs119 : List Value, h94 x0 = some (.inr (3, fs119)) ∧ (wq_cw G l d C95 S96 mX4_wrong [.ref x0, .int (4 : Int32)] h94 (fun h116 C117 S118 => ∃ fs124 : List Value, h116 x0 = some (.inr (3, fs124)) ∧ (wq_cw G l d C117 S118 mX4_on [.ref x0] h116 (fun h121 C122 S123 => wq_gR h121 x2 [(8, 0), (9, 0)] (fun a126 => wq_si G h121 a126 x4 y91 (fun h127 => wq_T G l d mX4_set (wq_qv K) 110 [some (.ref x0), none, some (.ref x2), some (.int (x3 + y91)), some (.int (x4 + (1 : Int32))), none] [] h127 C122 S123)))))))))))) ∨ (∃ fs98 : List Value, h88 x2 = some (.inr (9, fs98)) ∧ wq_ci G l d C89 S90 mX11_outcomes [.ref x2] h88 (fun y97 h94 C95 S96 => (¬ x4 = (y97 - (1 : Int32)) → ∃ fs103 : List Value, h94 x0 = some (.inr (3, fs103)) ∧ (wq_cw G l d C95 S96 mX4_on [.ref x0] h94 (fun h100 C101 S102 => wq_gR h100 x2 [(8, 0), (9, 0)] (fun a105 => wq_si G h100 a105 x4 y91 (fun h106 => wq_T G l d mX4_set (wq_qv K) 110 [some (.ref x0), none, some (.ref x2), some (.int (x3 + y91)), some (.int (x4 + (1 : Int32))), none] [] h106 C101 S102))))) ∧ (x4 = (y97 - (1 : Int32)) → wq_gR h94 x0 [(3, 1)] (fun a107 => wq_gI h94 a107 [(5, 0)] (fun y108 => ((x3 + y91) = y108 → ∃ fs112 : List Value, h94 x0 = some (.inr (3, fs112)) ∧ (wq_cw G l d C95 S96 mX4_on [.ref x0] h94 (fun h109 C110 S111 => wq_gR h109 x2 [(8, 0), (9, 0)] (fun a114 => wq_si G h109 a114 x4 y91 (fun h115 => wq_T G l d mX4_set (wq_qv K) 110 [some (.ref x0), none, some (.ref x2), some (.int (x3 + y91)), some (.int (x4 + (1 : Int32))), none] [] h115 C110 S111))))) ∧ (¬ (x3 + y91) = y108 → ∃ fs119 : List Value, h94 x0 = some (.inr (3, fs119)) ∧ (wq_cw G l d C95 S96 mX4_wrong [.ref x0, .int (4 : Int32)] h94 (fun h116 C117 S118 => ∃ fs124 : List Value, h116 x0 = some (.inr (3, fs124)) ∧ (wq_cw G l d C117 S118 mX4_on [.ref x0] h116 (fun h121 C122 S123 => wq_gR h121 x2 [(8, 0), (9, 0)] (fun a126 => wq_si G h121 a126 x4 y91 (fun h127 => wq_T G l d mX4_set (wq_qv K) 110 [some (.ref x0), none, some (.ref x2), some (.int (x3 + y91)), some (.int (x4 + (1 : Int32))), none] [] h127 C122 S123)))))))))))))))))))))))) : wq_T G l d mX4_set (wq_qv K) 110 [some (.ref x0), none, some (.ref x2), some (.int x3), some (.int x4), none] [] h C S := by
  refine wq_iload (pc := 110) dX4_set_110 rfl ?_
  refine wq_aload_n (pc := 112) dX4_set_112 rfl rfl ?_
  have T : ∀ C2 S3 y4 h1, ((y4 ≤ x4 → ∃ fs11 : List Value, h1 x0 = some (.inr (3, fs11)) ∧ (wq_ci G l d C2 S3 mX4_isOver [.ref x0] h1 (fun y10 h7 C8 S9 => (¬ y10 = 0 → K h7) ∧ (y10 = 0 → wq_gR h7 x0 [(3, 1)] (fun a13 => wq_gR h7 a13 [(5, 3)] (fun a14 => wq_gR h7 a14 [(6, 0)] (fun a15 => ∃ fs20 : List Value, h7 a15 = some (.inr (16, fs20)) ∧ (wq_ci G l d C8 S9 mJ2_add [.ref a15, .ref x2] h7 (fun y19 h16 C17 S18 => K h16))))))))) ∧ (¬ y4 ≤ x4 → ∃ fs26 : List Value, h1 x0 = some (.inr (3, fs26)) ∧ (wq_ci G l d C2 S3 mX4_isOver [.ref x0] h1 (fun y25 h22 C23 S24 => (¬ y25 = 0 → ∃ fs32 : List Value, h22 x0 = some (.inr (3, fs32)) ∧ (wq_ci G l d C23 S24 mX4_isOver [.ref x0] h22 (fun y31 h28 C29 S30 => (¬ y31 = 0 → K h28) ∧ (y31 = 0 → wq_gR h28 x0 [(3, 1)] (fun a34 => wq_gR h28 a34 [(5, 3)] (fun a35 => wq_gR h28 a35 [(6, 0)] (fun a36 => ∃ fs41 : List Value, h28 a36 = some (.inr (16, fs41)) ∧ (wq_ci G l d C29 S30 mJ2_add [.ref a36, .ref x2] h28 (fun y40 h37 C38 S39 => K h37))))))))) ∧ (y25 = 0 → (x4 ≤ 0 → ∃ fs47 : List Value, h22 x0 = some (.inr (3, fs47)) ∧ (wq_ci G l d C23 S24 mX4_bounded [.ref x0, .int (0 : Int32), .int (60 : Int32)] h22 (fun y46 h43 C44 S45 => (∃ fs53 : List Value, h43 x2 = some (.inr (8, fs53)) ∧ wq_ci G l d C44 S45 mX10_outcomes [.ref x2] h43 (fun y52 h49 C50 S51 => (¬ x4 = (y52 - (1 : Int32)) → ∃ fs58 : List Value, h49 x0 = some (.inr (3, fs58)) ∧ (wq_cw G l d C50 S51 mX4_on [.ref x0] h49 (fun h55 C56 S57 => wq_gR h55 x2 [(8, 0), (9, 0)] (fun a60 => wq_si G h55 a60 x4 y46 (fun h61 => wq_T G l d mX4_set (wq_qv K) 110 [some (.ref x0), none, some (.ref x2), some (.int (x3 + y46)), some (.int (x4 + (1 : Int32))), none] [] h61 C56 S57))))) ∧ (x4 = (y52 - (1 : Int32)) → wq_gR h49 x0 [(3, 1)] (fun a62 => wq_gI h49 a62 [(5, 0)] (fun y63 => ((x3 + y46) = y63 → ∃ fs67 : List Value, h49 x0 = some (.inr (3, fs67)) ∧ (wq_cw G l d C50 S51 mX4_on [.ref x0] h49 (fun h64 C65 S66 => wq_gR h64 x2 [(8, 0), (9, 0)] (fun a69 => wq_si G h64 a69 x4 y46 (fun h70 => wq_T G l d mX4_set (wq_qv K) 110 [some (.ref x0), none, some (.ref x2), some (.int (x3 + y46)), some (.int (x4 + (1 : Int32))), none] [] h70 C65 S66))))) ∧ (¬ (x3 + y46) = y63 → ∃ fs74 : List Value, h49 x0 = some (.inr (3, fs74)) ∧ (wq_cw G l d C50 S51 mX4_wrong [.ref x0, .int (4 : Int32)] h49 (fun h71 C72 S73 => ∃ fs79 : List Value, h71 x0 = some (.inr (3, fs79)) ∧ (wq_cw G l d C72 S73 mX4_on [.ref x0] h71 (fun h76 C77 S78 => wq_gR h76 x2 [(8, 0), (9, 0)] (fun a81 => wq_si G h76 a81 x4 y46 (fun h82 => wq_T G l d mX4_set (wq_qv K) 110 [some (.ref x0), none, some (.ref x2), some (.int (x3 + y46)), some (.int (x4 + (1 : Int32))), none] [] h82 C77 S78)))))))))))) ∨ (∃ fs53 : List Value, h43 x2 = some (.inr (9, fs53)) ∧ wq_ci G l d C44 S45 mX11_outcomes [.ref x2] h43 (fun y52 h49 C50 S51 => (¬ x4 = (y52 - (1 : Int32)) → ∃ fs58 : List Value, h49 x0 = some (.inr (3, fs58)) ∧ (wq_cw G l d C50 S51 mX4_on [.ref x0] h49 (fun h55 C56 S57 => wq_gR h55 x2 [(8, 0), (9, 0)] (fun a60 => wq_si G h55 a60 x4 y46 (fun h61 => wq_T G l d mX4_set (wq_qv K) 110 [some (.ref x0), none, some (.ref x2), some (.int (x3 + y46)), some (.int (x4 + (1 : Int32))), none] [] h61 C56 S57))))) ∧ (x4 = (y52 - (1 : Int32)) → wq_gR h49 x0 [(3, 1)] (fun a62 => wq_gI h49 a62 [(5, 0)] (fun y63 => ((x3 + y46) = y63 → ∃ fs67 : List Value, h49 x0 = some (.inr (3, fs67)) ∧ (wq_cw G l d C50 S51 mX4_on [.ref x0] h49 (fun h64 C65 S66 => wq_gR h64 x2 [(8, 0), (9, 0)] (fun a69 => wq_si G h64 a69 x4 y46 (fun h70 => wq_T G l d mX4_set (wq_qv K) 110 [some (.ref x0), none, some (.ref x2), some (.int (x3 + y46)), some (.int (x4 + (1 : Int32))), none] [] h70 C65 S66))))) ∧ (¬ (x3 + y46) = y63 → ∃ fs74 : List Value, h49 x0 = some (.inr (3, fs74)) ∧ (wq_cw G l d C50 S51 mX4_wrong [.ref x0, .int (4 : Int32)] h49 (fun h71 C72 S73 => ∃ fs79 : List Value, h71 x0 = some (.inr (3, fs79)) ∧ (wq_cw G l d C72 S73 mX4_on [.ref x0] h71 (fun h76 C77 S78 => wq_gR h76 x2 [(8, 0), (9, 0)] (fun a81 => wq_si G h76 a81 x4 y46 (fun h82 => wq_T G l d mX4_set (wq_qv K) 110 [some (.ref x0), none, some (.ref x2), some (.int (x3 + y46)), some (.int (x4 + (1 : Int32))), none] [] h82 C77 S78))))))))))))))) ∧ (¬ x4 ≤ 0 → ∃ fs86 : List Value, h22 x0 = some (.inr (3, fs86)) ∧ (wq_cw G l d C23 S24 mX4_needsSign [.ref x0, .int (44 : Int32)] h22 (fun h83 C84 S85 => ∃ fs92 : List Value, h83 x0 = some (.inr (3, fs92)) ∧ (wq_ci G l d C84 S85 mX4_bounded [.ref x0, .int (0 : Int32), .int (60 : Int32)] h83 (fun y91 h88 C89 S90 => (∃ fs98 : List Value, h88 x2 = some (.inr (8, fs98)) ∧ wq_ci G l d C89 S90 mX10_outcomes [.ref x2] h88 (fun y97 h94 C95 S96 => (¬ x4 = (y97 - (1 : Int32)) → ∃ fs103 : List Value, h94 x0 = some (.inr (3, fs103)) ∧ (wq_cw G l d C95 S96 mX4_on [.ref x0] h94 (fun h100 C101 S102 => wq_gR h100 x2 [(8, 0), (9, 0)] (fun a105 => wq_si G h100 a105 x4 y91 (fun h106 => wq_T G l d mX4_set (wq_qv K) 110 [some (.ref x0), none, some (.ref x2), some (.int (x3 + y91)), some (.int (x4 + (1 : Int32))), none] [] h106 C101 S102))))) ∧ (x4 = (y97 - (1 : Int32)) → wq_gR h94 x0 [(3, 1)] (fun a107 => wq_gI h94 a107 [(5, 0)] (fun y108 => ((x3 + y91) = y108 → ∃ fs112 : List Value, h94 x0 = some (.inr (3, fs112)) ∧ (wq_cw G l d C95 S96 mX4_on [.ref x0] h94 (fun h109 C110 S111 => wq_gR h109 x2 [(8, 0), (9, 0)] (fun a114 => wq_si G h109 a114 x4 y91 (fun h115 => wq_T G l d mX4_set (wq_qv K) 110 [some (.ref x0), none, some (.ref x2), some (.int (x3 + y91)), some (.int (x4 + (1 : Int32))), none] [] h115 C110 S111))))) ∧ (¬ (x3 + y91) = y108 → ∃ fs119 : List Value, h94 x0 = some (.inr (3, fs119)) ∧ (wq_cw G l d C95 S96 mX4_wrong [.ref x0, .int (4 : Int32)] h94 (fun h116 C117 S118 => ∃ fs124 : List Value, h116 x0 = some (.inr (3, fs124)) ∧ (wq_cw G l d C117 S118 mX4_on [.ref x0] h116 (fun h121 C122 S123 => wq_gR h121 x2 [(8, 0), (9, 0)] (fun a126 => wq_si G h121 a126 x4 y91 (fun h127 => wq_T G l d mX4_set (wq_qv K) 110 [some (.ref x0), none, some (.ref x2), some (.int (x3 + y91)), some (.int (x4 + (1 : Int32))), none] [] h127 C122 S123)))))))))))) ∨ (∃ fs98 : List Value, h88 x2 = some (.inr (9, fs98)) ∧ wq_ci G l d C89 S90 mX11_outcomes [.ref x2] h88 (fun y97 h94 C95 S96 => (¬ x4 = (y97 - (1 : Int32)) → ∃ fs103 : List Value, h94 x0 = some (.inr (3, fs103)) ∧ (wq_cw G l d C95 S96 mX4_on [.ref x0] h94 (fun h100 C101 S102 => wq_gR h100 x2 [(8, 0), (9, 0)] (fun a105 => wq_si G h100 a105 x4 y91 (fun h106 => wq_T G l d mX4_set (wq_qv K) 110 [some (.ref x0), none, some (.ref x2), some (.int (x3 + y91)), some (.int (x4 + (1 : Int32))), none] [] h106 C101 S102))))) ∧ (x4 = (y97 - (1 : Int32)) → wq_gR h94 x0 [(3, 1)] (fun a107 => wq_gI h94 a107 [(5, 0)] (fun y108 => ((x3 + y91) = y108 → ∃ fs112 : List Value, h94 x0 = some (.inr (3, fs112)) ∧ (wq_cw G l d C95 S96 mX4_on [.ref x0] h94 (fun h109 C110 S111 => wq_gR h109 x2 [(8, 0), (9, 0)] (fun a114 => wq_si G h109 a114 x4 y91 (fun h115 => wq_T G l d mX4_set (wq_qv K) 110 [some (.ref x0), none, some (.ref x2), some (.int (x3 + y91)), some (.int (x4 + (1 : Int32))), none] [] h115 C110 S111))))) ∧ (¬ (x3 + y91) = y108 → ∃ fs119 : List Value, h94 x0 = some (.inr (3, fs119)) ∧ (wq_cw G l d C95 S96 mX4_wrong [.ref x0, .int (4 : Int32)] h94 (fun h116 C117 S118 => ∃ fs124 : List Value, h116 x0 = some (.inr (3, fs124)) ∧ (wq_cw G l d C117 S118 mX4_on [.ref x0] h116 (fun h121 C122 S123 => wq_gR h121 x2 [(8, 0), (9, 0)] (fun a126 => wq_si G h121 a126 x4 y91 (fun h127 => wq_T G l d mX4_set (wq_qv K) 110 [some (.ref x0), none, some (.ref x2), some (.int (x3 + y91)), some (.int (x4 + (1 : Int32))), none] [] h127 C122 S123)))))))))))))))))))))) → wq_T G l d mX4_set (wq_qv K) 116 [some (.ref x0), none, some (.ref x2), some (.int x3), some (.int x4), none] [.int y4, .int x4] h1 C2 S3 := by
    intro C2 S3 y4 h1 V
    refine wq_icmp_ge (pc := 116) (tgt := 197) dX4_set_116 rfl (fun c => ?_) (fun c => ?_)
    · have V := V.1 c
      refine wq_aload_n (pc := 197) dX4_set_197 rfl rfl ?_
      obtain ⟨fs11, w12, V⟩ := V
      refine clq676 (pc := 198) (As := []) (st := []) rfl dX4_set_198 rfl (Nat.le_of_ble_eq_true rfl) w12 V (fun C8 S9 => wx_ki (fun y10 h7 V => ?_))
      refine wq_if_ne (pc := 201) (tgt := 219) dX4_set_201 rfl (fun c => ?_) (fun c => ?_)
      · have V := V.1 c
        refine wq_vret (pc := 219) dX4_set_219 rfl ⟨rfl, V⟩
      · have V := V.2 c
        refine wq_aload_n (pc := 204) dX4_set_204 rfl rfl ?_
        refine gfq568 (pc := 205) rfl dX4_set_205 V (fun a13 V => ?_)
        refine gfq317 (pc := 208) rfl dX4_set_208 V (fun a14 V => ?_)
        refine gfq300 (pc := 211) rfl dX4_set_211 V (fun a15 V => ?_)
        refine wq_aload_n (pc := 214) dX4_set_214 rfl rfl ?_
        obtain ⟨fs20, w21, V⟩ := V
        refine clq739 (pc := 215) (As := [.ref x2]) (st := []) rfl dX4_set_215 rfl (Nat.le_of_ble_eq_true rfl) w21 V (fun C17 S18 => wx_ki (fun y19 h16 V => ?_))
        refine wq_pop (pc := 218) dX4_set_218 rfl ?_
        refine wq_vret (pc := 219) dX4_set_219 rfl ⟨rfl, V⟩
    · have V := V.2 c
      refine wq_aload_n (pc := 119) dX4_set_119 rfl rfl ?_
      obtain ⟨fs26, w27, V⟩ := V
      refine clq676 (pc := 120) (As := []) (st := []) rfl dX4_set_120 rfl (Nat.le_of_ble_eq_true rfl) w27 V (fun C23 S24 => wx_ki (fun y25 h22 V => ?_))
      refine wq_if_ne (pc := 123) (tgt := 197) dX4_set_123 rfl (fun c => ?_) (fun c => ?_)
      · have V := V.1 c
        refine wq_aload_n (pc := 197) dX4_set_197 rfl rfl ?_
        obtain ⟨fs32, w33, V⟩ := V
        refine clq676 (pc := 198) (As := []) (st := []) rfl dX4_set_198 rfl (Nat.le_of_ble_eq_true rfl) w33 V (fun C29 S30 => wx_ki (fun y31 h28 V => ?_))
        refine wq_if_ne (pc := 201) (tgt := 219) dX4_set_201 rfl (fun c => ?_) (fun c => ?_)
        · have V := V.1 c
          refine wq_vret (pc := 219) dX4_set_219 rfl ⟨rfl, V⟩
        · have V := V.2 c
          refine wq_aload_n (pc := 204) dX4_set_204 rfl rfl ?_
          refine gfq568 (pc := 205) rfl dX4_set_205 V (fun a34 V => ?_)
          refine gfq317 (pc := 208) rfl dX4_set_208 V (fun a35 V => ?_)
          refine gfq300 (pc := 211) rfl dX4_set_211 V (fun a36 V => ?_)
          refine wq_aload_n (pc := 214) dX4_set_214 rfl rfl ?_
          obtain ⟨fs41, w42, V⟩ := V
          refine clq739 (pc := 215) (As := [.ref x2]) (st := []) rfl dX4_set_215 rfl (Nat.le_of_ble_eq_true rfl) w42 V (fun C38 S39 => wx_ki (fun y40 h37 V => ?_))
          refine wq_pop (pc := 218) dX4_set_218 rfl ?_
          refine wq_vret (pc := 219) dX4_set_219 rfl ⟨rfl, V⟩
      · have V := V.2 c
        refine wq_iload (pc := 126) dX4_set_126 rfl ?_
        refine wq_if_le (pc := 128) (tgt := 137) dX4_set_128 rfl (fun c => ?_) (fun c => ?_)
        · have V := V.1 c
          refine wq_aload_n (pc := 137) dX4_set_137 rfl rfl ?_
          refine wq_iconst (pc := 138) dX4_set_138 gsti0 ?_
          refine wq_bipush (pc := 139) dX4_set_139 gstb60 ?_
          obtain ⟨fs47, w48, V⟩ := V
          refine clq698 (pc := 141) (As := [.int (0 : Int32), .int (60 : Int32)]) (st := []) rfl dX4_set_141 rfl (Nat.le_of_ble_eq_true rfl) w48 V (fun C44 S45 => wx_ki (fun y46 h43 V => ?_))
          refine wq_istore (L' := [some (.ref x0), none, some (.ref x2), some (.int x3), some (.int x4), some (.int y46)]) (pc := 144) dX4_set_144 (Nat.le_of_ble_eq_true rfl) rfl ?_
          refine wq_iload_n (pc := 146) dX4_set_146 rfl rfl ?_
          refine wq_iload (pc := 147) dX4_set_147 rfl ?_
          refine wq_iadd (pc := 149) dX4_set_149 ?_
          refine wq_istore_n (L' := [some (.ref x0), none, some (.ref x2), some (.int (x3 + y46)), some (.int x4), some (.int y46)]) (pc := 150) dX4_set_150 rfl (Nat.le_of_ble_eq_true rfl) rfl ?_
          refine wq_iload (pc := 151) dX4_set_151 rfl ?_
          refine wq_aload_n (pc := 153) dX4_set_153 rfl rfl ?_
          have T : ∀ C50 S51 y52 h49, ((¬ x4 = (y52 - (1 : Int32)) → ∃ fs58 : List Value, h49 x0 = some (.inr (3, fs58)) ∧ (wq_cw G l d C50 S51 mX4_on [.ref x0] h49 (fun h55 C56 S57 => wq_gR h55 x2 [(8, 0), (9, 0)] (fun a60 => wq_si G h55 a60 x4 y46 (fun h61 => wq_T G l d mX4_set (wq_qv K) 110 [some (.ref x0), none, some (.ref x2), some (.int (x3 + y46)), some (.int (x4 + (1 : Int32))), none] [] h61 C56 S57))))) ∧ (x4 = (y52 - (1 : Int32)) → wq_gR h49 x0 [(3, 1)] (fun a62 => wq_gI h49 a62 [(5, 0)] (fun y63 => ((x3 + y46) = y63 → ∃ fs67 : List Value, h49 x0 = some (.inr (3, fs67)) ∧ (wq_cw G l d C50 S51 mX4_on [.ref x0] h49 (fun h64 C65 S66 => wq_gR h64 x2 [(8, 0), (9, 0)] (fun a69 => wq_si G h64 a69 x4 y46 (fun h70 => wq_T G l d mX4_set (wq_qv K) 110 [some (.ref x0), none, some (.ref x2), some (.int (x3 + y46)), some (.int (x4 + (1 : Int32))), none] [] h70 C65 S66))))) ∧ (¬ (x3 + y46) = y63 → ∃ fs74 : List Value, h49 x0 = some (.inr (3, fs74)) ∧ (wq_cw G l d C50 S51 mX4_wrong [.ref x0, .int (4 : Int32)] h49 (fun h71 C72 S73 => ∃ fs79 : List Value, h71 x0 = some (.inr (3, fs79)) ∧ (wq_cw G l d C72 S73 mX4_on [.ref x0] h71 (fun h76 C77 S78 => wq_gR h76 x2 [(8, 0), (9, 0)] (fun a81 => wq_si G h76 a81 x4 y46 (fun h82 => wq_T G l d mX4_set (wq_qv K) 110 [some (.ref x0), none, some (.ref x2), some (.int (x3 + y46)), some (.int (x4 + (1 : Int32))), none] [] h82 C77 S78))))))))))) → wq_T G l d mX4_set (wq_qv K) 157 [some (.ref x0), none, some (.ref x2), some (.int (x3 + y46)), some (.int x4), some (.int y46)] [.int y52, .int x4] h49 C50 S51 := by
            intro C50 S51 y52 h49 V
            refine wq_iconst (pc := 157) dX4_set_157 gsti1 ?_
            refine wq_isub (pc := 158) dX4_set_158 ?_
            refine wq_icmp_ne (pc := 159) (tgt := 178) dX4_set_159 rfl (fun c => ?_) (fun c => ?_)
            · have V := V.1 c
              refine wq_aload_n (pc := 178) dX4_set_178 rfl rfl ?_
              obtain ⟨fs58, w59, V⟩ := V
              refine clq680 (pc := 179) (As := []) (st := []) rfl dX4_set_179 rfl (Nat.le_of_ble_eq_true rfl) w59 V (fun C56 S57 => wx_kv (fun h55 V => ?_))
              refine wq_aload_n (pc := 182) dX4_set_182 rfl rfl ?_
              refine gfq839 (pc := 183) rfl dX4_set_183 V (fun a60 V => ?_)
              refine wq_iload (pc := 186) dX4_set_186 rfl ?_
              refine wq_iload (pc := 188) dX4_set_188 rfl ?_
              refine wx_si (pc := 190) dX4_set_190 V (fun h61 V => ?_)
              refine wq_iinc (L' := [some (.ref x0), none, some (.ref x2), some (.int (x3 + y46)), some (.int (x4 + (1 : Int32))), some (.int y46)]) (pc := 191) dX4_set_191 rfl (by rw [gsti1]) (Nat.le_of_ble_eq_true rfl) rfl ?_
              refine wq_goto (pc := 194) (tgt := 110) dX4_set_194 rfl ?_
              exact wq_T.less V ⟨rfl, ⟨rfl, ⟨rfl, ⟨rfl, trivial⟩⟩⟩⟩
            · have V := V.2 c
              refine wq_iload_n (pc := 162) dX4_set_162 rfl rfl ?_
              refine wq_aload_n (pc := 163) dX4_set_163 rfl rfl ?_
              refine gfq568 (pc := 164) rfl dX4_set_164 V (fun a62 V => ?_)
              refine gfq307 (pc := 167) rfl dX4_set_167 V (fun y63 V => ?_)
              refine wq_icmp_eq (pc := 170) (tgt := 178) dX4_set_170 rfl (fun c => ?_) (fun c => ?_)
              · have V := V.1 c
                refine wq_aload_n (pc := 178) dX4_set_178 rfl rfl ?_
                obtain ⟨fs67, w68, V⟩ := V
                refine clq680 (pc := 179) (As := []) (st := []) rfl dX4_set_179 rfl (Nat.le_of_ble_eq_true rfl) w68 V (fun C65 S66 => wx_kv (fun h64 V => ?_))
                refine wq_aload_n (pc := 182) dX4_set_182 rfl rfl ?_
                refine gfq839 (pc := 183) rfl dX4_set_183 V (fun a69 V => ?_)
                refine wq_iload (pc := 186) dX4_set_186 rfl ?_
                refine wq_iload (pc := 188) dX4_set_188 rfl ?_
                refine wx_si (pc := 190) dX4_set_190 V (fun h70 V => ?_)
                refine wq_iinc (L' := [some (.ref x0), none, some (.ref x2), some (.int (x3 + y46)), some (.int (x4 + (1 : Int32))), some (.int y46)]) (pc := 191) dX4_set_191 rfl (by rw [gsti1]) (Nat.le_of_ble_eq_true rfl) rfl ?_
                refine wq_goto (pc := 194) (tgt := 110) dX4_set_194 rfl ?_
                exact wq_T.less V ⟨rfl, ⟨rfl, ⟨rfl, ⟨rfl, trivial⟩⟩⟩⟩
              · have V := V.2 c
                refine wq_aload_n (pc := 173) dX4_set_173 rfl rfl ?_
                refine wq_iconst (pc := 174) dX4_set_174 gsti4 ?_
                obtain ⟨fs74, w75, V⟩ := V
                refine clq672 (pc := 175) (As := [.int (4 : Int32)]) (st := []) rfl dX4_set_175 rfl (Nat.le_of_ble_eq_true rfl) w75 V (fun C72 S73 => wx_kv (fun h71 V => ?_))
                refine wq_aload_n (pc := 178) dX4_set_178 rfl rfl ?_
                obtain ⟨fs79, w80, V⟩ := V
                refine clq680 (pc := 179) (As := []) (st := []) rfl dX4_set_179 rfl (Nat.le_of_ble_eq_true rfl) w80 V (fun C77 S78 => wx_kv (fun h76 V => ?_))
                refine wq_aload_n (pc := 182) dX4_set_182 rfl rfl ?_
                refine gfq839 (pc := 183) rfl dX4_set_183 V (fun a81 V => ?_)
                refine wq_iload (pc := 186) dX4_set_186 rfl ?_
                refine wq_iload (pc := 188) dX4_set_188 rfl ?_
                refine wx_si (pc := 190) dX4_set_190 V (fun h82 V => ?_)
                refine wq_iinc (L' := [some (.ref x0), none, some (.ref x2), some (.int (x3 + y46)), some (.int (x4 + (1 : Int32))), some (.int y46)]) (pc := 191) dX4_set_191 rfl (by rw [gsti1]) (Nat.le_of_ble_eq_true rfl) rfl ?_
                refine wq_goto (pc := 194) (tgt := 110) dX4_set_194 rfl ?_
                exact wq_T.less V ⟨rfl, ⟨rfl, ⟨rfl, ⟨rfl, trivial⟩⟩⟩⟩
          rcases V with ⟨fs53, w54, V⟩ | ⟨fs53, w54, V⟩
          · exact clq867_8 (pc := 154) (As := []) (st := [.int x4]) rfl dX4_set_154 rfl (Nat.le_of_ble_eq_true rfl) w54 V (fun C50 S51 => wx_ki (fun y52 h49 V => T C50 S51 y52 h49 V))
          · exact clq867_9 (pc := 154) (As := []) (st := [.int x4]) rfl dX4_set_154 rfl (Nat.le_of_ble_eq_true rfl) w54 V (fun C50 S51 => wx_ki (fun y52 h49 V => T C50 S51 y52 h49 V))
        · have V := V.2 c
          refine wq_aload_n (pc := 131) dX4_set_131 rfl rfl ?_
          refine wq_bipush (pc := 132) dX4_set_132 gstb44 ?_
          obtain ⟨fs86, w87, V⟩ := V
          refine clq876 (pc := 134) (As := [.int (44 : Int32)]) (st := []) rfl dX4_set_134 rfl (Nat.le_of_ble_eq_true rfl) w87 V (fun C84 S85 => wx_kv (fun h83 V => ?_))
          refine wq_aload_n (pc := 137) dX4_set_137 rfl rfl ?_
          refine wq_iconst (pc := 138) dX4_set_138 gsti0 ?_
          refine wq_bipush (pc := 139) dX4_set_139 gstb60 ?_
          obtain ⟨fs92, w93, V⟩ := V
          refine clq698 (pc := 141) (As := [.int (0 : Int32), .int (60 : Int32)]) (st := []) rfl dX4_set_141 rfl (Nat.le_of_ble_eq_true rfl) w93 V (fun C89 S90 => wx_ki (fun y91 h88 V => ?_))
          refine wq_istore (L' := [some (.ref x0), none, some (.ref x2), some (.int x3), some (.int x4), some (.int y91)]) (pc := 144) dX4_set_144 (Nat.le_of_ble_eq_true rfl) rfl ?_
          refine wq_iload_n (pc := 146) dX4_set_146 rfl rfl ?_
          refine wq_iload (pc := 147) dX4_set_147 rfl ?_
          refine wq_iadd (pc := 149) dX4_set_149 ?_
          refine wq_istore_n (L' := [some (.ref x0), none, some (.ref x2), some (.int (x3 + y91)), some (.int x4), some (.int y91)]) (pc := 150) dX4_set_150 rfl (Nat.le_of_ble_eq_true rfl) rfl ?_
          refine wq_iload (pc := 151) dX4_set_151 rfl ?_
          refine wq_aload_n (pc := 153) dX4_set_153 rfl rfl ?_
          have T : ∀ C95 S96 y97 h94, ((¬ x4 = (y97 - (1 : Int32)) → ∃ fs103 : List Value, h94 x0 = some (.inr (3, fs103)) ∧ (wq_cw G l d C95 S96 mX4_on [.ref x0] h94 (fun h100 C101 S102 => wq_gR h100 x2 [(8, 0), (9, 0)] (fun a105 => wq_si G h100 a105 x4 y91 (fun h106 => wq_T G l d mX4_set (wq_qv K) 110 [some (.ref x0), none, some (.ref x2), some (.int (x3 + y91)), some (.int (x4 + (1 : Int32))), none] [] h106 C101 S102))))) ∧ (x4 = (y97 - (1 : Int32)) → wq_gR h94 x0 [(3, 1)] (fun a107 => wq_gI h94 a107 [(5, 0)] (fun y108 => ((x3 + y91) = y108 → ∃ fs112 : List Value, h94 x0 = some (.inr (3, fs112)) ∧ (wq_cw G l d C95 S96 mX4_on [.ref x0] h94 (fun h109 C110 S111 => wq_gR h109 x2 [(8, 0), (9, 0)] (fun a114 => wq_si G h109 a114 x4 y91 (fun h115 => wq_T G l d mX4_set (wq_qv K) 110 [some (.ref x0), none, some (.ref x2), some (.int (x3 + y91)), some (.int (x4 + (1 : Int32))), none] [] h115 C110 S111))))) ∧ (¬ (x3 + y91) = y108 → ∃ fs119 : List Value, h94 x0 = some (.inr (3, fs119)) ∧ (wq_cw G l d C95 S96 mX4_wrong [.ref x0, .int (4 : Int32)] h94 (fun h116 C117 S118 => ∃ fs124 : List Value, h116 x0 = some (.inr (3, fs124)) ∧ (wq_cw G l d C117 S118 mX4_on [.ref x0] h116 (fun h121 C122 S123 => wq_gR h121 x2 [(8, 0), (9, 0)] (fun a126 => wq_si G h121 a126 x4 y91 (fun h127 => wq_T G l d mX4_set (wq_qv K) 110 [some (.ref x0), none, some (.ref x2), some (.int (x3 + y91)), some (.int (x4 + (1 : Int32))), none] [] h127 C122 S123))))))))))) → wq_T G l d mX4_set (wq_qv K) 157 [some (.ref x0), none, some (.ref x2), some (.int (x3 + y91)), some (.int x4), some (.int y91)] [.int y97, .int x4] h94 C95 S96 := by
            intro C95 S96 y97 h94 V
            refine wq_iconst (pc := 157) dX4_set_157 gsti1 ?_
            refine wq_isub (pc := 158) dX4_set_158 ?_
            refine wq_icmp_ne (pc := 159) (tgt := 178) dX4_set_159 rfl (fun c => ?_) (fun c => ?_)
            · have V := V.1 c
              refine wq_aload_n (pc := 178) dX4_set_178 rfl rfl ?_
              obtain ⟨fs103, w104, V⟩ := V
              refine clq680 (pc := 179) (As := []) (st := []) rfl dX4_set_179 rfl (Nat.le_of_ble_eq_true rfl) w104 V (fun C101 S102 => wx_kv (fun h100 V => ?_))
              refine wq_aload_n (pc := 182) dX4_set_182 rfl rfl ?_
              refine gfq839 (pc := 183) rfl dX4_set_183 V (fun a105 V => ?_)
              refine wq_iload (pc := 186) dX4_set_186 rfl ?_
              refine wq_iload (pc := 188) dX4_set_188 rfl ?_
              refine wx_si (pc := 190) dX4_set_190 V (fun h106 V => ?_)
              refine wq_iinc (L' := [some (.ref x0), none, some (.ref x2), some (.int (x3 + y91)), some (.int (x4 + (1 : Int32))), some (.int y91)]) (pc := 191) dX4_set_191 rfl (by rw [gsti1]) (Nat.le_of_ble_eq_true rfl) rfl ?_
              refine wq_goto (pc := 194) (tgt := 110) dX4_set_194 rfl ?_
              exact wq_T.less V ⟨rfl, ⟨rfl, ⟨rfl, ⟨rfl, trivial⟩⟩⟩⟩
            · have V := V.2 c
              refine wq_iload_n (pc := 162) dX4_set_162 rfl rfl ?_
              refine wq_aload_n (pc := 163) dX4_set_163 rfl rfl ?_
              refine gfq568 (pc := 164) rfl dX4_set_164 V (fun a107 V => ?_)
              refine gfq307 (pc := 167) rfl dX4_set_167 V (fun y108 V => ?_)
              refine wq_icmp_eq (pc := 170) (tgt := 178) dX4_set_170 rfl (fun c => ?_) (fun c => ?_)
              · have V := V.1 c
                refine wq_aload_n (pc := 178) dX4_set_178 rfl rfl ?_
                obtain ⟨fs112, w113, V⟩ := V
                refine clq680 (pc := 179) (As := []) (st := []) rfl dX4_set_179 rfl (Nat.le_of_ble_eq_true rfl) w113 V (fun C110 S111 => wx_kv (fun h109 V => ?_))
                refine wq_aload_n (pc := 182) dX4_set_182 rfl rfl ?_
                refine gfq839 (pc := 183) rfl dX4_set_183 V (fun a114 V => ?_)
                refine wq_iload (pc := 186) dX4_set_186 rfl ?_
                refine wq_iload (pc := 188) dX4_set_188 rfl ?_
                refine wx_si (pc := 190) dX4_set_190 V (fun h115 V => ?_)
                refine wq_iinc (L' := [some (.ref x0), none, some (.ref x2), some (.int (x3 + y91)), some (.int (x4 + (1 : Int32))), some (.int y91)]) (pc := 191) dX4_set_191 rfl (by rw [gsti1]) (Nat.le_of_ble_eq_true rfl) rfl ?_
                refine wq_goto (pc := 194) (tgt := 110) dX4_set_194 rfl ?_
                exact wq_T.less V ⟨rfl, ⟨rfl, ⟨rfl, ⟨rfl, trivial⟩⟩⟩⟩
              · have V := V.2 c
                refine wq_aload_n (pc := 173) dX4_set_173 rfl rfl ?_
                refine wq_iconst (pc := 174) dX4_set_174 gsti4 ?_
                obtain ⟨fs119, w120, V⟩ := V
                refine clq672 (pc := 175) (As := [.int (4 : Int32)]) (st := []) rfl dX4_set_175 rfl (Nat.le_of_ble_eq_true rfl) w120 V (fun C117 S118 => wx_kv (fun h116 V => ?_))
                refine wq_aload_n (pc := 178) dX4_set_178 rfl rfl ?_
                obtain ⟨fs124, w125, V⟩ := V
                refine clq680 (pc := 179) (As := []) (st := []) rfl dX4_set_179 rfl (Nat.le_of_ble_eq_true rfl) w125 V (fun C122 S123 => wx_kv (fun h121 V => ?_))
                refine wq_aload_n (pc := 182) dX4_set_182 rfl rfl ?_
                refine gfq839 (pc := 183) rfl dX4_set_183 V (fun a126 V => ?_)
                refine wq_iload (pc := 186) dX4_set_186 rfl ?_
                refine wq_iload (pc := 188) dX4_set_188 rfl ?_
                refine wx_si (pc := 190) dX4_set_190 V (fun h127 V => ?_)
                refine wq_iinc (L' := [some (.ref x0), none, some (.ref x2), some (.int (x3 + y91)), some (.int (x4 + (1 : Int32))), some (.int y91)]) (pc := 191) dX4_set_191 rfl (by rw [gsti1]) (Nat.le_of_ble_eq_true rfl) rfl ?_
                refine wq_goto (pc := 194) (tgt := 110) dX4_set_194 rfl ?_
                exact wq_T.less V ⟨rfl, ⟨rfl, ⟨rfl, ⟨rfl, trivial⟩⟩⟩⟩
          rcases V with ⟨fs98, w99, V⟩ | ⟨fs98, w99, V⟩
          · exact clq867_8 (pc := 154) (As := []) (st := [.int x4]) rfl dX4_set_154 rfl (Nat.le_of_ble_eq_true rfl) w99 V (fun C95 S96 => wx_ki (fun y97 h94 V => T C95 S96 y97 h94 V))
          · exact clq867_9 (pc := 154) (As := []) (st := [.int x4]) rfl dX4_set_154 rfl (Nat.le_of_ble_eq_true rfl) w99 V (fun C95 S96 => wx_ki (fun y97 h94 V => T C95 S96 y97 h94 V))
  rcases V with ⟨fs5, w6, V⟩ | ⟨fs5, w6, V⟩
  · exact clq867_8 (pc := 113) (As := []) (st := [.int x4]) rfl dX4_set_113 rfl (Nat.le_of_ble_eq_true rfl) w6 V (fun C2 S3 => wx_ki (fun y4 h1 V => T C2 S3 y4 h1 V))
  · exact clq867_9 (pc := 113) (As := []) (st := [.int x4]) rfl dX4_set_113 rfl (Nat.le_of_ble_eq_true rfl) w6 V (fun C2 S3 => wx_ki (fun y4 h1 V => T C2 S3 y4 h1 V))
theorem vX4_told_0 {G : wq_G} {l : Launch} {d C S : Nat} {K : Int32 → wq_H → Prop} {x0 : Nat} {x1 : Nat} {x2 : Int32} {h : wq_H} (V : ∃ fs5 : List Value, h x0 = some (.inr (3, fs5)) ∧ (wq_ci G l d C S mX4_known [.ref x0, .ref x1, .int x2] h (fun y4 h1 C2 S3 => ∃ fs10 : List Value, h1 x0 = some (.inr (3, fs10)) ∧ (wq_cw G l d C2 S3 mX4_on [.ref x0] h1 (fun h7 C8 S9 => K y4 h7))))) : wq_T G l d mX4_told (wq_qi K) 0 [some (.ref x0), some (.ref x1), some (.int x2), none] [] h C S := by
  refine wq_aload_n (pc := 0) dX4_told_0 rfl rfl ?_
  refine wq_aload_n (pc := 1) dX4_told_1 rfl rfl ?_
  refine wq_iload_n (pc := 2) dX4_told_2 rfl rfl ?_
  obtain ⟨fs5, w6, V⟩ := V
  refine clq814 (pc := 3) (As := [.ref x1, .int x2]) (st := []) rfl dX4_told_3 rfl (Nat.le_of_ble_eq_true rfl) w6 V (fun C2 S3 => wx_ki (fun y4 h1 V => ?_))
  refine wq_istore_n (L' := [some (.ref x0), some (.ref x1), some (.int x2), some (.int y4)]) (pc := 6) dX4_told_6 rfl (Nat.le_of_ble_eq_true rfl) rfl ?_
  refine wq_aload_n (pc := 7) dX4_told_7 rfl rfl ?_
  obtain ⟨fs10, w11, V⟩ := V
  refine clq680 (pc := 8) (As := []) (st := []) rfl dX4_told_8 rfl (Nat.le_of_ble_eq_true rfl) w11 V (fun C8 S9 => wx_kv (fun h7 V => ?_))
  refine wq_iload_n (pc := 11) dX4_told_11 rfl rfl ?_
  refine wq_iret (pc := 12) dX4_told_12 rfl ⟨_, rfl, V⟩
theorem vX4_known_0 {G : wq_G} {l : Launch} {d C S : Nat} {K : Int32 → wq_H → Prop} {x0 : Nat} {x1 : Nat} {x2 : Int32} {h : wq_H} (V : wq_gR h x0 [(3, 4)] (fun a1 => ∃ fs6 : List Value, h a1 = some (.inr (7, fs6)) ∧ (wq_ci G l d C S mX8_isName [.ref a1] h (fun y5 h2 C3 S4 => (¬ y5 = 0 → wq_gR h2 x0 [(3, 4)] (fun a8 => wq_gR h2 a8 [(7, 3)] (fun a9 => wq_ci G l d C3 S4 mX4_find [.ref x1, .ref a9] h2 (fun y13 h10 C11 S12 => (¬ y13 = (-1 : Int32) → wq_ci G l d C11 S12 mX1_has [.int x2, .int y13] h10 (fun y17 h14 C15 S16 => (y17 = 0 → ∃ fs22 : List Value, h14 x0 = some (.inr (3, fs22)) ∧ (wq_ci G l d C15 S16 mX4_isOver [.ref x0] h14 (fun y21 h18 C19 S20 => (y21 = 0 → K y13 h18) ∧ (¬ y21 = 0 → K (0 : Int32) h18)))) ∧ (¬ y17 = 0 → ∃ fs27 : List Value, h14 x0 = some (.inr (3, fs27)) ∧ (wq_cw G l d C15 S16 mX4_wrong [.ref x0, .int (3 : Int32)] h14 (fun h24 C25 S26 => ∃ fs33 : List Value, h24 x0 = some (.inr (3, fs33)) ∧ (wq_ci G l d C25 S26 mX4_isOver [.ref x0] h24 (fun y32 h29 C30 S31 => (y32 = 0 → K y13 h29) ∧ (¬ y32 = 0 → K (0 : Int32) h29)))))))) ∧ (y13 = (-1 : Int32) → ∃ fs38 : List Value, h10 x0 = some (.inr (3, fs38)) ∧ (wq_cw G l d C11 S12 mX4_wrong [.ref x0, .int (2 : Int32)] h10 (fun h35 C36 S37 => ∃ fs44 : List Value, h35 x0 = some (.inr (3, fs44)) ∧ (wq_ci G l d C36 S37 mX4_isOver [.ref x0] h35 (fun y43 h40 C41 S42 => (y43 = 0 → K y13 h40) ∧ (¬ y43 = 0 → K (0 : Int32) h40)))))))))) ∧ (y5 = 0 → ∃ fs49 : List Value, h2 x0 = some (.inr (3, fs49)) ∧ (wq_cw G l d C3 S4 mX4_wrong [.ref x0, .int (1 : Int32)] h2 (fun h46 C47 S48 => wq_gR h46 x0 [(3, 4)] (fun a51 => wq_gR h46 a51 [(7, 3)] (fun a52 => wq_ci G l d C47 S48 mX4_find [.ref x1, .ref a52] h46 (fun y56 h53 C54 S55 => (¬ y56 = (-1 : Int32) → wq_ci G l d C54 S55 mX1_has [.int x2, .int y56] h53 (fun y60 h57 C58 S59 => (y60 = 0 → ∃ fs65 : List Value, h57 x0 = some (.inr (3, fs65)) ∧ (wq_ci G l d C58 S59 mX4_isOver [.ref x0] h57 (fun y64 h61 C62 S63 => (y64 = 0 → K y56 h61) ∧ (¬ y64 = 0 → K (0 : Int32) h61)))) ∧ (¬ y60 = 0 → ∃ fs70 : List Value, h57 x0 = some (.inr (3, fs70)) ∧ (wq_cw G l d C58 S59 mX4_wrong [.ref x0, .int (3 : Int32)] h57 (fun h67 C68 S69 => ∃ fs76 : List Value, h67 x0 = some (.inr (3, fs76)) ∧ (wq_ci G l d C68 S69 mX4_isOver [.ref x0] h67 (fun y75 h72 C73 S74 => (y75 = 0 → K y56 h72) ∧ (¬ y75 = 0 → K (0 : Int32) h72)))))))) ∧ (y56 = (-1 : Int32) → ∃ fs81 : List Value, h53 x0 = some (.inr (3, fs81)) ∧ (wq_cw G l d C54 S55 mX4_wrong [.ref x0, .int (2 : Int32)] h53 (fun h78 C79 S80 => ∃ fs87 : List Value, h78 x0 = some (.inr (3, fs87)) ∧ (wq_ci G l d C79 S80 mX4_isOver [.ref x0] h78 (fun y86 h83 C84 S85 => (y86 = 0 → K y56 h83) ∧ (¬ y86 = 0 → K (0 : Int32) h83)))))))))))))))) : wq_T G l d mX4_known (wq_qi K) 0 [some (.ref x0), some (.ref x1), some (.int x2), none] [] h C S := by
  refine wq_aload_n (pc := 0) dX4_known_0 rfl rfl ?_
  refine gfq571 (pc := 1) rfl dX4_known_1 V (fun a1 V => ?_)
  obtain ⟨fs6, w7, V⟩ := V
  refine clq707 (pc := 4) (As := []) (st := []) rfl dX4_known_4 rfl (Nat.le_of_ble_eq_true rfl) w7 V (fun C3 S4 => wx_ki (fun y5 h2 V => ?_))
  refine wq_if_ne (pc := 7) (tgt := 15) dX4_known_7 rfl (fun c => ?_) (fun c => ?_)
  · have V := V.1 c
    refine wq_aload_n (pc := 15) dX4_known_15 rfl rfl ?_
    refine wq_aload_n (pc := 16) dX4_known_16 rfl rfl ?_
    refine gfq571 (pc := 17) rfl dX4_known_17 V (fun a8 V => ?_)
    refine gfq367 (pc := 20) rfl dX4_known_20 V (fun a9 V => ?_)
    refine clq719 (pc := 23) (As := [.ref x1, .ref a9]) (st := []) rfl dX4_known_23 rfl (Nat.le_of_ble_eq_true rfl) V (fun C11 S12 => wx_ki (fun y13 h10 V => ?_))
    refine wq_istore_n (L' := [some (.ref x0), some (.ref x1), some (.int x2), some (.int y13)]) (pc := 26) dX4_known_26 rfl (Nat.le_of_ble_eq_true rfl) rfl ?_
    refine wq_iload_n (pc := 27) dX4_known_27 rfl rfl ?_
    refine wq_iconst (pc := 28) dX4_known_28 gstim1 ?_
    refine wq_icmp_ne (pc := 29) (tgt := 40) dX4_known_29 rfl (fun c => ?_) (fun c => ?_)
    · have V := V.1 c
      refine wq_iload_n (pc := 40) dX4_known_40 rfl rfl ?_
      refine wq_iload_n (pc := 41) dX4_known_41 rfl rfl ?_
      refine clq818 (pc := 42) (As := [.int x2, .int y13]) (st := []) rfl dX4_known_42 rfl (Nat.le_of_ble_eq_true rfl) V (fun C15 S16 => wx_ki (fun y17 h14 V => ?_))
      refine wq_if_eq (pc := 45) (tgt := 53) dX4_known_45 rfl (fun c => ?_) (fun c => ?_)
      · have V := V.1 c
        refine wq_aload_n (pc := 53) dX4_known_53 rfl rfl ?_
        obtain ⟨fs22, w23, V⟩ := V
        refine clq676 (pc := 54) (As := []) (st := []) rfl dX4_known_54 rfl (Nat.le_of_ble_eq_true rfl) w23 V (fun C19 S20 => wx_ki (fun y21 h18 V => ?_))
        refine wq_if_eq (pc := 57) (tgt := 64) dX4_known_57 rfl (fun c => ?_) (fun c => ?_)
        · have V := V.1 c
          refine wq_iload_n (pc := 64) dX4_known_64 rfl rfl ?_
          refine wq_iret (pc := 65) dX4_known_65 rfl ⟨_, rfl, V⟩
        · have V := V.2 c
          refine wq_iconst (pc := 60) dX4_known_60 gsti0 ?_
          refine wq_goto (pc := 61) (tgt := 65) dX4_known_61 rfl ?_
          refine wq_iret (pc := 65) dX4_known_65 rfl ⟨_, rfl, V⟩
      · have V := V.2 c
        refine wq_aload_n (pc := 48) dX4_known_48 rfl rfl ?_
        refine wq_iconst (pc := 49) dX4_known_49 gsti3 ?_
        obtain ⟨fs27, w28, V⟩ := V
        refine clq672 (pc := 50) (As := [.int (3 : Int32)]) (st := []) rfl dX4_known_50 rfl (Nat.le_of_ble_eq_true rfl) w28 V (fun C25 S26 => wx_kv (fun h24 V => ?_))
        refine wq_aload_n (pc := 53) dX4_known_53 rfl rfl ?_
        obtain ⟨fs33, w34, V⟩ := V
        refine clq676 (pc := 54) (As := []) (st := []) rfl dX4_known_54 rfl (Nat.le_of_ble_eq_true rfl) w34 V (fun C30 S31 => wx_ki (fun y32 h29 V => ?_))
        refine wq_if_eq (pc := 57) (tgt := 64) dX4_known_57 rfl (fun c => ?_) (fun c => ?_)
        · have V := V.1 c
          refine wq_iload_n (pc := 64) dX4_known_64 rfl rfl ?_
          refine wq_iret (pc := 65) dX4_known_65 rfl ⟨_, rfl, V⟩
        · have V := V.2 c
          refine wq_iconst (pc := 60) dX4_known_60 gsti0 ?_
          refine wq_goto (pc := 61) (tgt := 65) dX4_known_61 rfl ?_
          refine wq_iret (pc := 65) dX4_known_65 rfl ⟨_, rfl, V⟩
    · have V := V.2 c
      refine wq_aload_n (pc := 32) dX4_known_32 rfl rfl ?_
      refine wq_iconst (pc := 33) dX4_known_33 gsti2 ?_
      obtain ⟨fs38, w39, V⟩ := V
      refine clq672 (pc := 34) (As := [.int (2 : Int32)]) (st := []) rfl dX4_known_34 rfl (Nat.le_of_ble_eq_true rfl) w39 V (fun C36 S37 => wx_kv (fun h35 V => ?_))
      refine wq_goto (pc := 37) (tgt := 53) dX4_known_37 rfl ?_
      refine wq_aload_n (pc := 53) dX4_known_53 rfl rfl ?_
      obtain ⟨fs44, w45, V⟩ := V
      refine clq676 (pc := 54) (As := []) (st := []) rfl dX4_known_54 rfl (Nat.le_of_ble_eq_true rfl) w45 V (fun C41 S42 => wx_ki (fun y43 h40 V => ?_))
      refine wq_if_eq (pc := 57) (tgt := 64) dX4_known_57 rfl (fun c => ?_) (fun c => ?_)
      · have V := V.1 c
        refine wq_iload_n (pc := 64) dX4_known_64 rfl rfl ?_
        refine wq_iret (pc := 65) dX4_known_65 rfl ⟨_, rfl, V⟩
      · have V := V.2 c
        refine wq_iconst (pc := 60) dX4_known_60 gsti0 ?_
        refine wq_goto (pc := 61) (tgt := 65) dX4_known_61 rfl ?_
        refine wq_iret (pc := 65) dX4_known_65 rfl ⟨_, rfl, V⟩
  · have V := V.2 c
    refine wq_aload_n (pc := 10) dX4_known_10 rfl rfl ?_
    refine wq_iconst (pc := 11) dX4_known_11 gsti1 ?_
    obtain ⟨fs49, w50, V⟩ := V
    refine clq672 (pc := 12) (As := [.int (1 : Int32)]) (st := []) rfl dX4_known_12 rfl (Nat.le_of_ble_eq_true rfl) w50 V (fun C47 S48 => wx_kv (fun h46 V => ?_))
    refine wq_aload_n (pc := 15) dX4_known_15 rfl rfl ?_
    refine wq_aload_n (pc := 16) dX4_known_16 rfl rfl ?_
    refine gfq571 (pc := 17) rfl dX4_known_17 V (fun a51 V => ?_)
    refine gfq367 (pc := 20) rfl dX4_known_20 V (fun a52 V => ?_)
    refine clq719 (pc := 23) (As := [.ref x1, .ref a52]) (st := []) rfl dX4_known_23 rfl (Nat.le_of_ble_eq_true rfl) V (fun C54 S55 => wx_ki (fun y56 h53 V => ?_))
    refine wq_istore_n (L' := [some (.ref x0), some (.ref x1), some (.int x2), some (.int y56)]) (pc := 26) dX4_known_26 rfl (Nat.le_of_ble_eq_true rfl) rfl ?_
    refine wq_iload_n (pc := 27) dX4_known_27 rfl rfl ?_
    refine wq_iconst (pc := 28) dX4_known_28 gstim1 ?_
    refine wq_icmp_ne (pc := 29) (tgt := 40) dX4_known_29 rfl (fun c => ?_) (fun c => ?_)
    · have V := V.1 c
      refine wq_iload_n (pc := 40) dX4_known_40 rfl rfl ?_
      refine wq_iload_n (pc := 41) dX4_known_41 rfl rfl ?_
      refine clq818 (pc := 42) (As := [.int x2, .int y56]) (st := []) rfl dX4_known_42 rfl (Nat.le_of_ble_eq_true rfl) V (fun C58 S59 => wx_ki (fun y60 h57 V => ?_))
      refine wq_if_eq (pc := 45) (tgt := 53) dX4_known_45 rfl (fun c => ?_) (fun c => ?_)
      · have V := V.1 c
        refine wq_aload_n (pc := 53) dX4_known_53 rfl rfl ?_
        obtain ⟨fs65, w66, V⟩ := V
        refine clq676 (pc := 54) (As := []) (st := []) rfl dX4_known_54 rfl (Nat.le_of_ble_eq_true rfl) w66 V (fun C62 S63 => wx_ki (fun y64 h61 V => ?_))
        refine wq_if_eq (pc := 57) (tgt := 64) dX4_known_57 rfl (fun c => ?_) (fun c => ?_)
        · have V := V.1 c
          refine wq_iload_n (pc := 64) dX4_known_64 rfl rfl ?_
          refine wq_iret (pc := 65) dX4_known_65 rfl ⟨_, rfl, V⟩
        · have V := V.2 c
          refine wq_iconst (pc := 60) dX4_known_60 gsti0 ?_
          refine wq_goto (pc := 61) (tgt := 65) dX4_known_61 rfl ?_
          refine wq_iret (pc := 65) dX4_known_65 rfl ⟨_, rfl, V⟩
      · have V := V.2 c
        refine wq_aload_n (pc := 48) dX4_known_48 rfl rfl ?_
        refine wq_iconst (pc := 49) dX4_known_49 gsti3 ?_
        obtain ⟨fs70, w71, V⟩ := V
        refine clq672 (pc := 50) (As := [.int (3 : Int32)]) (st := []) rfl dX4_known_50 rfl (Nat.le_of_ble_eq_true rfl) w71 V (fun C68 S69 => wx_kv (fun h67 V => ?_))
        refine wq_aload_n (pc := 53) dX4_known_53 rfl rfl ?_
        obtain ⟨fs76, w77, V⟩ := V
        refine clq676 (pc := 54) (As := []) (st := []) rfl dX4_known_54 rfl (Nat.le_of_ble_eq_true rfl) w77 V (fun C73 S74 => wx_ki (fun y75 h72 V => ?_))
        refine wq_if_eq (pc := 57) (tgt := 64) dX4_known_57 rfl (fun c => ?_) (fun c => ?_)
        · have V := V.1 c
          refine wq_iload_n (pc := 64) dX4_known_64 rfl rfl ?_
          refine wq_iret (pc := 65) dX4_known_65 rfl ⟨_, rfl, V⟩
        · have V := V.2 c
          refine wq_iconst (pc := 60) dX4_known_60 gsti0 ?_
          refine wq_goto (pc := 61) (tgt := 65) dX4_known_61 rfl ?_
          refine wq_iret (pc := 65) dX4_known_65 rfl ⟨_, rfl, V⟩
    · have V := V.2 c
      refine wq_aload_n (pc := 32) dX4_known_32 rfl rfl ?_
      refine wq_iconst (pc := 33) dX4_known_33 gsti2 ?_
      obtain ⟨fs81, w82, V⟩ := V
      refine clq672 (pc := 34) (As := [.int (2 : Int32)]) (st := []) rfl dX4_known_34 rfl (Nat.le_of_ble_eq_true rfl) w82 V (fun C79 S80 => wx_kv (fun h78 V => ?_))
      refine wq_goto (pc := 37) (tgt := 53) dX4_known_37 rfl ?_
      refine wq_aload_n (pc := 53) dX4_known_53 rfl rfl ?_
      obtain ⟨fs87, w88, V⟩ := V
      refine clq676 (pc := 54) (As := []) (st := []) rfl dX4_known_54 rfl (Nat.le_of_ble_eq_true rfl) w88 V (fun C84 S85 => wx_ki (fun y86 h83 V => ?_))
      refine wq_if_eq (pc := 57) (tgt := 64) dX4_known_57 rfl (fun c => ?_) (fun c => ?_)
      · have V := V.1 c
        refine wq_iload_n (pc := 64) dX4_known_64 rfl rfl ?_
        refine wq_iret (pc := 65) dX4_known_65 rfl ⟨_, rfl, V⟩
      · have V := V.2 c
        refine wq_iconst (pc := 60) dX4_known_60 gsti0 ?_
        refine wq_goto (pc := 61) (tgt := 65) dX4_known_61 rfl ?_
        refine wq_iret (pc := 65) dX4_known_65 rfl ⟨_, rfl, V⟩
theorem vX4_needsSign_0 {G : wq_G} {l : Launch} {d C S : Nat} {K : wq_H → Prop} {x0 : Nat} {x1 : Int32} {h : wq_H} (V : wq_gR h x0 [(3, 4)] (fun a1 => ∃ fs6 : List Value, h a1 = some (.inr (7, fs6)) ∧ (wq_ci G l d C S mX8_isSign [.ref a1, .int x1] h (fun y5 h2 C3 S4 => (¬ y5 = 0 → ∃ fs11 : List Value, h2 x0 = some (.inr (3, fs11)) ∧ (wq_cw G l d C3 S4 mX4_on [.ref x0] h2 (fun h8 C9 S10 => K h8))) ∧ (y5 = 0 → ∃ fs16 : List Value, h2 x0 = some (.inr (3, fs16)) ∧ (wq_cw G l d C3 S4 mX4_wrong [.ref x0, .int (1 : Int32)] h2 (fun h13 C14 S15 => ∃ fs21 : List Value, h13 x0 = some (.inr (3, fs21)) ∧ (wq_cw G l d C14 S15 mX4_on [.ref x0] h13 (fun h18 C19 S20 => K h18))))))))) : wq_T G l d mX4_needsSign (wq_qv K) 0 [some (.ref x0), some (.int x1)] [] h C S := by
  refine wq_aload_n (pc := 0) dX4_needsSign_0 rfl rfl ?_
  refine gfq571 (pc := 1) rfl dX4_needsSign_1 V (fun a1 V => ?_)
  refine wq_iload_n (pc := 4) dX4_needsSign_4 rfl rfl ?_
  obtain ⟨fs6, w7, V⟩ := V
  refine clq797 (pc := 5) (As := [.int x1]) (st := []) rfl dX4_needsSign_5 rfl (Nat.le_of_ble_eq_true rfl) w7 V (fun C3 S4 => wx_ki (fun y5 h2 V => ?_))
  refine wq_if_ne (pc := 8) (tgt := 16) dX4_needsSign_8 rfl (fun c => ?_) (fun c => ?_)
  · have V := V.1 c
    refine wq_aload_n (pc := 16) dX4_needsSign_16 rfl rfl ?_
    obtain ⟨fs11, w12, V⟩ := V
    refine clq680 (pc := 17) (As := []) (st := []) rfl dX4_needsSign_17 rfl (Nat.le_of_ble_eq_true rfl) w12 V (fun C9 S10 => wx_kv (fun h8 V => ?_))
    refine wq_vret (pc := 20) dX4_needsSign_20 rfl ⟨rfl, V⟩
  · have V := V.2 c
    refine wq_aload_n (pc := 11) dX4_needsSign_11 rfl rfl ?_
    refine wq_iconst (pc := 12) dX4_needsSign_12 gsti1 ?_
    obtain ⟨fs16, w17, V⟩ := V
    refine clq672 (pc := 13) (As := [.int (1 : Int32)]) (st := []) rfl dX4_needsSign_13 rfl (Nat.le_of_ble_eq_true rfl) w17 V (fun C14 S15 => wx_kv (fun h13 V => ?_))
    refine wq_aload_n (pc := 16) dX4_needsSign_16 rfl rfl ?_
    obtain ⟨fs21, w22, V⟩ := V
    refine clq680 (pc := 17) (As := []) (st := []) rfl dX4_needsSign_17 rfl (Nat.le_of_ble_eq_true rfl) w22 V (fun C19 S20 => wx_kv (fun h18 V => ?_))
    refine wq_vret (pc := 20) dX4_needsSign_20 rfl ⟨rfl, V⟩
theorem vX4_parity_0 {G : wq_G} {l : Launch} {d C S : Nat} {K : wq_H → Prop} {x0 : Nat} {h : wq_H} (V : wq_gR h x0 [(3, 1)] (fun a1 => wq_gR h a1 [(5, 4)] (fun a2 => ∃ fs7 : List Value, h a2 = some (.inr (16, fs7)) ∧ (wq_ci G l d C S mJ2_size [.ref a2] h (fun y6 h3 C4 S5 => (¬ y6 = (8 : Int32) → ∃ fs12 : List Value, h3 x0 = some (.inr (3, fs12)) ∧ (wq_cw G l d C4 S5 mX4_on [.ref x0] h3 (fun h9 C10 S11 => wq_T G l d mX4_parity (wq_qv K) 28 [some (.ref x0), some (.int (0 : Int32)), some (.int (0 : Int32))] [] h9 C10 S11))) ∧ (y6 = (8 : Int32) → ∃ fs17 : List Value, h3 x0 = some (.inr (3, fs17)) ∧ (wq_cw G l d C4 S5 mX4_wrong [.ref x0, .int (5 : Int32)] h3 (fun h14 C15 S16 => ∃ fs22 : List Value, h14 x0 = some (.inr (3, fs22)) ∧ (wq_cw G l d C15 S16 mX4_on [.ref x0] h14 (fun h19 C20 S21 => wq_T G l d mX4_parity (wq_qv K) 28 [some (.ref x0), some (.int (0 : Int32)), some (.int (0 : Int32))] [] h19 C20 S21)))))))))) : wq_T G l d mX4_parity (wq_qv K) 0 [some (.ref x0), none, none] [] h C S := by
  refine wq_aload_n (pc := 0) dX4_parity_0 rfl rfl ?_
  refine gfq568 (pc := 1) rfl dX4_parity_1 V (fun a1 V => ?_)
  refine gfq319 (pc := 4) rfl dX4_parity_4 V (fun a2 V => ?_)
  obtain ⟨fs7, w8, V⟩ := V
  refine clq722 (pc := 7) (As := []) (st := []) rfl dX4_parity_7 rfl (Nat.le_of_ble_eq_true rfl) w8 V (fun C4 S5 => wx_ki (fun y6 h3 V => ?_))
  refine wq_bipush (pc := 10) dX4_parity_10 gstb8 ?_
  refine wq_icmp_ne (pc := 12) (tgt := 20) dX4_parity_12 rfl (fun c => ?_) (fun c => ?_)
  · have V := V.1 c
    refine wq_aload_n (pc := 20) dX4_parity_20 rfl rfl ?_
    obtain ⟨fs12, w13, V⟩ := V
    refine clq680 (pc := 21) (As := []) (st := []) rfl dX4_parity_21 rfl (Nat.le_of_ble_eq_true rfl) w13 V (fun C10 S11 => wx_kv (fun h9 V => ?_))
    refine wq_iconst (pc := 24) dX4_parity_24 gsti0 ?_
    refine wq_istore_n (L' := [some (.ref x0), some (.int (0 : Int32)), none]) (pc := 25) dX4_parity_25 rfl (Nat.le_of_ble_eq_true rfl) rfl ?_
    refine wq_iconst (pc := 26) dX4_parity_26 gsti0 ?_
    refine wq_istore_n (L' := [some (.ref x0), some (.int (0 : Int32)), some (.int (0 : Int32))]) (pc := 27) dX4_parity_27 rfl (Nat.le_of_ble_eq_true rfl) rfl ?_
    exact wq_T.less V ⟨rfl, ⟨rfl, ⟨rfl, trivial⟩⟩⟩
  · have V := V.2 c
    refine wq_aload_n (pc := 15) dX4_parity_15 rfl rfl ?_
    refine wq_iconst (pc := 16) dX4_parity_16 gsti5 ?_
    obtain ⟨fs17, w18, V⟩ := V
    refine clq672 (pc := 17) (As := [.int (5 : Int32)]) (st := []) rfl dX4_parity_17 rfl (Nat.le_of_ble_eq_true rfl) w18 V (fun C15 S16 => wx_kv (fun h14 V => ?_))
    refine wq_aload_n (pc := 20) dX4_parity_20 rfl rfl ?_
    obtain ⟨fs22, w23, V⟩ := V
    refine clq680 (pc := 21) (As := []) (st := []) rfl dX4_parity_21 rfl (Nat.le_of_ble_eq_true rfl) w23 V (fun C20 S21 => wx_kv (fun h19 V => ?_))
    refine wq_iconst (pc := 24) dX4_parity_24 gsti0 ?_
    refine wq_istore_n (L' := [some (.ref x0), some (.int (0 : Int32)), none]) (pc := 25) dX4_parity_25 rfl (Nat.le_of_ble_eq_true rfl) rfl ?_
    refine wq_iconst (pc := 26) dX4_parity_26 gsti0 ?_
    refine wq_istore_n (L' := [some (.ref x0), some (.int (0 : Int32)), some (.int (0 : Int32))]) (pc := 27) dX4_parity_27 rfl (Nat.le_of_ble_eq_true rfl) rfl ?_
    exact wq_T.less V ⟨rfl, ⟨rfl, ⟨rfl, trivial⟩⟩⟩
theorem vX4_parity_28 {G : wq_G} {l : Launch} {d C S : Nat} {K : wq_H → Prop} {x0 : Nat} {x1 : Int32} {x2 : Int32} {h : wq_H} (V : ((3 : Int32) ≤ x2 → ∃ fs4 : List Value, h x0 = some (.inr (3, fs4)) ∧ (wq_cw G l d C S mX4_needs [.ref x0, .ref (G.2.2.2.2 12)] h (fun h1 C2 S3 => wq_gR h1 x0 [(3, 4)] (fun a6 => ∃ fs11 : List Value, h1 a6 = some (.inr (7, fs11)) ∧ (wq_ci G l d C2 S3 mX8_is [.ref a6, .ref (G.2.2.2.2 16)] h1 (fun y10 h7 C8 S9 => (¬ y10 = 0 → ∃ fs16 : List Value, h7 x0 = some (.inr (3, fs16)) ∧ (wq_cw G l d C8 S9 mX4_on [.ref x0] h7 (fun h13 C14 S15 => ∃ fs22 : List Value, h13 x0 = some (.inr (3, fs22)) ∧ (wq_ci G l d C14 S15 mX4_isOver [.ref x0] h13 (fun y21 h18 C19 S20 => (¬ y21 = 0 → K h18) ∧ (y21 = 0 → wq_gR h18 x0 [(3, 1)] (fun a24 => wq_gR h18 a24 [(5, 4)] (fun a25 => wq_no G h18 10 [.int 0, .int 0] 2 C19 S20 (fun a26 h27 => (y10 = 0 → wq_cw G l d (C19 - 1) (S20 - 2) mX12_init [.ref a26, .int x1, .int (0 : Int32)] h27 (fun h28 C29 S30 => ∃ fs35 : List Value, h28 a25 = some (.inr (16, fs35)) ∧ (wq_ci G l d C29 S30 mJ2_add [.ref a25, .ref a26] h28 (fun y34 h31 C32 S33 => K h31)))) ∧ (¬ y10 = 0 → wq_cw G l d (C19 - 1) (S20 - 2) mX12_init [.ref a26, .int x1, .int (1 : Int32)] h27 (fun h37 C38 S39 => ∃ fs44 : List Value, h37 a25 = some (.inr (16, fs44)) ∧ (wq_ci G l d C38 S39 mJ2_add [.ref a25, .ref a26] h37 (fun y43 h40 C41 S42 => K h40))))))))))))) ∧ (y10 = 0 → wq_gR h7 x0 [(3, 4)] (fun a46 => ∃ fs51 : List Value, h7 a46 = some (.inr (7, fs51)) ∧ (wq_ci G l d C8 S9 mX8_is [.ref a46, .ref (G.2.2.2.2 11)] h7 (fun y50 h47 C48 S49 => (¬ y50 = 0 → ∃ fs56 : List Value, h47 x0 = some (.inr (3, fs56)) ∧ (wq_cw G l d C48 S49 mX4_on [.ref x0] h47 (fun h53 C54 S55 => ∃ fs62 : List Value, h53 x0 = some (.inr (3, fs62)) ∧ (wq_ci G l d C54 S55 mX4_isOver [.ref x0] h53 (fun y61 h58 C59 S60 => (¬ y61 = 0 → K h58) ∧ (y61 = 0 → wq_gR h58 x0 [(3, 1)] (fun a64 => wq_gR h58 a64 [(5, 4)] (fun a65 => wq_no G h58 10 [.int 0, .int 0] 2 C59 S60 (fun a66 h67 => (y10 = 0 → wq_cw G l d (C59 - 1) (S60 - 2) mX12_init [.ref a66, .int x1, .int (0 : Int32)] h67 (fun h68 C69 S70 => ∃ fs75 : List Value, h68 a65 = some (.inr (16, fs75)) ∧ (wq_ci G l d C69 S70 mJ2_add [.ref a65, .ref a66] h68 (fun y74 h71 C72 S73 => K h71)))) ∧ (¬ y10 = 0 → wq_cw G l d (C59 - 1) (S60 - 2) mX12_init [.ref a66, .int x1, .int (1 : Int32)] h67 (fun h77 C78 S79 => ∃ fs84 : List Value, h77 a65 = some (.inr (16, fs84)) ∧ (wq_ci G l d C78 S79 mJ2_add [.ref a65, .ref a66] h77 (fun y83 h80 C81 S82 => K h80))))))))))))) ∧ (y50 = 0 → ∃ fs89 : List Value, h47 x0 = some (.inr (3, fs89)) ∧ (wq_cw G l d C48 S49 mX4_wrong [.ref x0, .int (1 : Int32)] h47 (fun h86 C87 S88 => ∃ fs94 : List Value, h86 x0 = some (.inr (3, fs94)) ∧ (wq_cw G l d C87 S88 mX4_on [.ref x0] h86 (fun h91 C92 S93 => ∃ fs100 : List Value, h91 x0 = some (.inr (3, fs100)) ∧ (wq_ci G l d C92 S93 mX4_isOver [.ref x0] h91 (fun y99 h96 C97 S98 => (¬ y99 = 0 → K h96) ∧ (y99 = 0 → wq_gR h96 x0 [(3, 1)] (fun a102 => wq_gR h96 a102 [(5, 4)] (fun a103 => wq_no G h96 10 [.int 0, .int 0] 2 C97 S98 (fun a104 h105 => (y10 = 0 → wq_cw G l d (C97 - 1) (S98 - 2) mX12_init [.ref a104, .int x1, .int (0 : Int32)] h105 (fun h106 C107 S108 => ∃ fs113 : List Value, h106 a103 = some (.inr (16, fs113)) ∧ (wq_ci G l d C107 S108 mJ2_add [.ref a103, .ref a104] h106 (fun y112 h109 C110 S111 => K h109)))) ∧ (¬ y10 = 0 → wq_cw G l d (C97 - 1) (S98 - 2) mX12_init [.ref a104, .int x1, .int (1 : Int32)] h105 (fun h115 C116 S117 => ∃ fs122 : List Value, h115 a103 = some (.inr (16, fs122)) ∧ (wq_ci G l d C116 S117 mJ2_add [.ref a103, .ref a104] h115 (fun y121 h118 C119 S120 => K h118))))))))))))))))))))))))) ∧ (¬ (3 : Int32) ≤ x2 → (x2 ≤ 0 → wq_gR h x0 [(3, 3)] (fun a124 => ∃ fs129 : List Value, h x0 = some (.inr (3, fs129)) ∧ (wq_ci G l d C S mX4_told [.ref x0, .ref a124, .int x1] h (fun y128 h125 C126 S127 => wq_T G l d mX4_parity (wq_qv K) 28 [some (.ref x0), some (.int (x1 ||| ((1 : Int32) <<< (y128 &&& 31)))), some (.int (x2 + (1 : Int32)))] [] h125 C126 S127)))) ∧ (¬ x2 ≤ 0 → ∃ fs134 : List Value, h x0 = some (.inr (3, fs134)) ∧ (wq_cw G l d C S mX4_needsSign [.ref x0, .int (44 : Int32)] h (fun h131 C132 S133 => wq_gR h131 x0 [(3, 3)] (fun a136 => ∃ fs141 : List Value, h131 x0 = some (.inr (3, fs141)) ∧ (wq_ci G l d C132 S133 mX4_told [.ref x0, .ref a136, .int x1] h131 (fun y140 h137 C138 S139 => wq_T G l d mX4_parity (wq_qv K) 28 [some (.ref x0), some (.int (x1 ||| ((1 : Int32) <<< (y140 &&& 31)))), some (.int (x2 + (1 : Int32)))] [] h137 C138 S139)))))))) : wq_T G l d mX4_parity (wq_qv K) 28 [some (.ref x0), some (.int x1), some (.int x2)] [] h C S := by
  refine wq_iload_n (pc := 28) dX4_parity_28 rfl rfl ?_
  refine wq_iconst (pc := 29) dX4_parity_29 gsti3 ?_
  refine wq_icmp_ge (pc := 30) (tgt := 63) dX4_parity_30 rfl (fun c => ?_) (fun c => ?_)
  · have V := V.1 c
    refine wq_aload_n (pc := 63) dX4_parity_63 rfl rfl ?_
    refine wq_ldcS (a := G.2.2.2.2 12) (pc := 64) (gstr_X4_218 G) dX4_parity_64 ?_
    obtain ⟨fs4, w5, V⟩ := V
    refine clq685 (pc := 66) (As := [.ref (G.2.2.2.2 12)]) (st := []) rfl dX4_parity_66 rfl (Nat.le_of_ble_eq_true rfl) w5 V (fun C2 S3 => wx_kv (fun h1 V => ?_))
    refine wq_aload_n (pc := 69) dX4_parity_69 rfl rfl ?_
    refine gfq571 (pc := 70) rfl dX4_parity_70 V (fun a6 V => ?_)
    refine wq_ldcS (a := G.2.2.2.2 16) (pc := 73) (gstr_X4_219 G) dX4_parity_73 ?_
    obtain ⟨fs11, w12, V⟩ := V
    refine clq689 (pc := 75) (As := [.ref (G.2.2.2.2 16)]) (st := []) rfl dX4_parity_75 rfl (Nat.le_of_ble_eq_true rfl) w12 V (fun C8 S9 => wx_ki (fun y10 h7 V => ?_))
    refine wq_istore_n (L' := [some (.ref x0), some (.int x1), some (.int y10)]) (pc := 78) dX4_parity_78 rfl (Nat.le_of_ble_eq_true rfl) rfl ?_
    refine wq_iload_n (pc := 79) dX4_parity_79 rfl rfl ?_
    refine wq_if_ne (pc := 80) (tgt := 100) dX4_parity_80 rfl (fun c => ?_) (fun c => ?_)
    · have V := V.1 c
      refine wq_aload_n (pc := 100) dX4_parity_100 rfl rfl ?_
      obtain ⟨fs16, w17, V⟩ := V
      refine clq680 (pc := 101) (As := []) (st := []) rfl dX4_parity_101 rfl (Nat.le_of_ble_eq_true rfl) w17 V (fun C14 S15 => wx_kv (fun h13 V => ?_))
      refine wq_aload_n (pc := 104) dX4_parity_104 rfl rfl ?_
      obtain ⟨fs22, w23, V⟩ := V
      refine clq676 (pc := 105) (As := []) (st := []) rfl dX4_parity_105 rfl (Nat.le_of_ble_eq_true rfl) w23 V (fun C19 S20 => wx_ki (fun y21 h18 V => ?_))
      refine wq_if_ne (pc := 108) (tgt := 139) dX4_parity_108 rfl (fun c => ?_) (fun c => ?_)
      · have V := V.1 c
        refine wq_vret (pc := 139) dX4_parity_139 rfl ⟨rfl, V⟩
      · have V := V.2 c
        refine wq_aload_n (pc := 111) dX4_parity_111 rfl rfl ?_
        refine gfq568 (pc := 112) rfl dX4_parity_112 V (fun a24 V => ?_)
        refine gfq319 (pc := 115) rfl dX4_parity_115 V (fun a25 V => ?_)
        refine nwq887 (pc := 118) rfl dX4_parity_118 V (fun a26 h27 V => ?_)
        refine wq_dup (pc := 121) dX4_parity_121 rfl ?_
        refine wq_iload_n (pc := 122) dX4_parity_122 rfl rfl ?_
        refine wq_iload_n (pc := 123) dX4_parity_123 rfl rfl ?_
        refine wq_if_eq (pc := 124) (tgt := 131) dX4_parity_124 rfl (fun c => ?_) (fun c => ?_)
        · have V := V.1 c
          refine wq_iconst (pc := 131) dX4_parity_131 gsti0 ?_
          refine clq889 (pc := 132) (As := [.int x1, .int (0 : Int32)]) (st := [.ref a26, .ref a25]) rfl dX4_parity_132 rfl (Nat.le_of_ble_eq_true rfl) V (fun C29 S30 => wx_kv (fun h28 V => ?_))
          obtain ⟨fs35, w36, V⟩ := V
          refine clq739 (pc := 135) (As := [.ref a26]) (st := []) rfl dX4_parity_135 rfl (Nat.le_of_ble_eq_true rfl) w36 V (fun C32 S33 => wx_ki (fun y34 h31 V => ?_))
          refine wq_pop (pc := 138) dX4_parity_138 rfl ?_
          refine wq_vret (pc := 139) dX4_parity_139 rfl ⟨rfl, V⟩
        · have V := V.2 c
          refine wq_iconst (pc := 127) dX4_parity_127 gsti1 ?_
          refine wq_goto (pc := 128) (tgt := 132) dX4_parity_128 rfl ?_
          refine clq889 (pc := 132) (As := [.int x1, .int (1 : Int32)]) (st := [.ref a26, .ref a25]) rfl dX4_parity_132 rfl (Nat.le_of_ble_eq_true rfl) V (fun C38 S39 => wx_kv (fun h37 V => ?_))
          obtain ⟨fs44, w45, V⟩ := V
          refine clq739 (pc := 135) (As := [.ref a26]) (st := []) rfl dX4_parity_135 rfl (Nat.le_of_ble_eq_true rfl) w45 V (fun C41 S42 => wx_ki (fun y43 h40 V => ?_))
          refine wq_pop (pc := 138) dX4_parity_138 rfl ?_
          refine wq_vret (pc := 139) dX4_parity_139 rfl ⟨rfl, V⟩
    · have V := V.2 c
      refine wq_aload_n (pc := 83) dX4_parity_83 rfl rfl ?_
      refine gfq571 (pc := 84) rfl dX4_parity_84 V (fun a46 V => ?_)
      refine wq_ldcS (a := G.2.2.2.2 11) (pc := 87) (gstr_X4_221 G) dX4_parity_87 ?_
      obtain ⟨fs51, w52, V⟩ := V
      refine clq689 (pc := 89) (As := [.ref (G.2.2.2.2 11)]) (st := []) rfl dX4_parity_89 rfl (Nat.le_of_ble_eq_true rfl) w52 V (fun C48 S49 => wx_ki (fun y50 h47 V => ?_))
      refine wq_if_ne (pc := 92) (tgt := 100) dX4_parity_92 rfl (fun c => ?_) (fun c => ?_)
      · have V := V.1 c
        refine wq_aload_n (pc := 100) dX4_parity_100 rfl rfl ?_
        obtain ⟨fs56, w57, V⟩ := V
        refine clq680 (pc := 101) (As := []) (st := []) rfl dX4_parity_101 rfl (Nat.le_of_ble_eq_true rfl) w57 V (fun C54 S55 => wx_kv (fun h53 V => ?_))
        refine wq_aload_n (pc := 104) dX4_parity_104 rfl rfl ?_
        obtain ⟨fs62, w63, V⟩ := V
        refine clq676 (pc := 105) (As := []) (st := []) rfl dX4_parity_105 rfl (Nat.le_of_ble_eq_true rfl) w63 V (fun C59 S60 => wx_ki (fun y61 h58 V => ?_))
        refine wq_if_ne (pc := 108) (tgt := 139) dX4_parity_108 rfl (fun c => ?_) (fun c => ?_)
        · have V := V.1 c
          refine wq_vret (pc := 139) dX4_parity_139 rfl ⟨rfl, V⟩
        · have V := V.2 c
          refine wq_aload_n (pc := 111) dX4_parity_111 rfl rfl ?_
          refine gfq568 (pc := 112) rfl dX4_parity_112 V (fun a64 V => ?_)
          refine gfq319 (pc := 115) rfl dX4_parity_115 V (fun a65 V => ?_)
          refine nwq887 (pc := 118) rfl dX4_parity_118 V (fun a66 h67 V => ?_)
          refine wq_dup (pc := 121) dX4_parity_121 rfl ?_
          refine wq_iload_n (pc := 122) dX4_parity_122 rfl rfl ?_
          refine wq_iload_n (pc := 123) dX4_parity_123 rfl rfl ?_
          refine wq_if_eq (pc := 124) (tgt := 131) dX4_parity_124 rfl (fun c => ?_) (fun c => ?_)
          · have V := V.1 c
            refine wq_iconst (pc := 131) dX4_parity_131 gsti0 ?_
            refine clq889 (pc := 132) (As := [.int x1, .int (0 : Int32)]) (st := [.ref a66, .ref a65]) rfl dX4_parity_132 rfl (Nat.le_of_ble_eq_true rfl) V (fun C69 S70 => wx_kv (fun h68 V => ?_))
            obtain ⟨fs75, w76, V⟩ := V
            refine clq739 (pc := 135) (As := [.ref a66]) (st := []) rfl dX4_parity_135 rfl (Nat.le_of_ble_eq_true rfl) w76 V (fun C72 S73 => wx_ki (fun y74 h71 V => ?_))
            refine wq_pop (pc := 138) dX4_parity_138 rfl ?_
            refine wq_vret (pc := 139) dX4_parity_139 rfl ⟨rfl, V⟩
          · have V := V.2 c
            refine wq_iconst (pc := 127) dX4_parity_127 gsti1 ?_
            refine wq_goto (pc := 128) (tgt := 132) dX4_parity_128 rfl ?_
            refine clq889 (pc := 132) (As := [.int x1, .int (1 : Int32)]) (st := [.ref a66, .ref a65]) rfl dX4_parity_132 rfl (Nat.le_of_ble_eq_true rfl) V (fun C78 S79 => wx_kv (fun h77 V => ?_))
            obtain ⟨fs84, w85, V⟩ := V
            refine clq739 (pc := 135) (As := [.ref a66]) (st := []) rfl dX4_parity_135 rfl (Nat.le_of_ble_eq_true rfl) w85 V (fun C81 S82 => wx_ki (fun y83 h80 V => ?_))
            refine wq_pop (pc := 138) dX4_parity_138 rfl ?_
            refine wq_vret (pc := 139) dX4_parity_139 rfl ⟨rfl, V⟩
      · have V := V.2 c
        refine wq_aload_n (pc := 95) dX4_parity_95 rfl rfl ?_
        refine wq_iconst (pc := 96) dX4_parity_96 gsti1 ?_
        obtain ⟨fs89, w90, V⟩ := V
        refine clq672 (pc := 97) (As := [.int (1 : Int32)]) (st := []) rfl dX4_parity_97 rfl (Nat.le_of_ble_eq_true rfl) w90 V (fun C87 S88 => wx_kv (fun h86 V => ?_))
        refine wq_aload_n (pc := 100) dX4_parity_100 rfl rfl ?_
        obtain ⟨fs94, w95, V⟩ := V
        refine clq680 (pc := 101) (As := []) (st := []) rfl dX4_parity_101 rfl (Nat.le_of_ble_eq_true rfl) w95 V (fun C92 S93 => wx_kv (fun h91 V => ?_))
        refine wq_aload_n (pc := 104) dX4_parity_104 rfl rfl ?_
        obtain ⟨fs100, w101, V⟩ := V
        refine clq676 (pc := 105) (As := []) (st := []) rfl dX4_parity_105 rfl (Nat.le_of_ble_eq_true rfl) w101 V (fun C97 S98 => wx_ki (fun y99 h96 V => ?_))
        refine wq_if_ne (pc := 108) (tgt := 139) dX4_parity_108 rfl (fun c => ?_) (fun c => ?_)
        · have V := V.1 c
          refine wq_vret (pc := 139) dX4_parity_139 rfl ⟨rfl, V⟩
        · have V := V.2 c
          refine wq_aload_n (pc := 111) dX4_parity_111 rfl rfl ?_
          refine gfq568 (pc := 112) rfl dX4_parity_112 V (fun a102 V => ?_)
          refine gfq319 (pc := 115) rfl dX4_parity_115 V (fun a103 V => ?_)
          refine nwq887 (pc := 118) rfl dX4_parity_118 V (fun a104 h105 V => ?_)
          refine wq_dup (pc := 121) dX4_parity_121 rfl ?_
          refine wq_iload_n (pc := 122) dX4_parity_122 rfl rfl ?_
          refine wq_iload_n (pc := 123) dX4_parity_123 rfl rfl ?_
          refine wq_if_eq (pc := 124) (tgt := 131) dX4_parity_124 rfl (fun c => ?_) (fun c => ?_)
          · have V := V.1 c
            refine wq_iconst (pc := 131) dX4_parity_131 gsti0 ?_
            refine clq889 (pc := 132) (As := [.int x1, .int (0 : Int32)]) (st := [.ref a104, .ref a103]) rfl dX4_parity_132 rfl (Nat.le_of_ble_eq_true rfl) V (fun C107 S108 => wx_kv (fun h106 V => ?_))
            obtain ⟨fs113, w114, V⟩ := V
            refine clq739 (pc := 135) (As := [.ref a104]) (st := []) rfl dX4_parity_135 rfl (Nat.le_of_ble_eq_true rfl) w114 V (fun C110 S111 => wx_ki (fun y112 h109 V => ?_))
            refine wq_pop (pc := 138) dX4_parity_138 rfl ?_
            refine wq_vret (pc := 139) dX4_parity_139 rfl ⟨rfl, V⟩
          · have V := V.2 c
            refine wq_iconst (pc := 127) dX4_parity_127 gsti1 ?_
            refine wq_goto (pc := 128) (tgt := 132) dX4_parity_128 rfl ?_
            refine clq889 (pc := 132) (As := [.int x1, .int (1 : Int32)]) (st := [.ref a104, .ref a103]) rfl dX4_parity_132 rfl (Nat.le_of_ble_eq_true rfl) V (fun C116 S117 => wx_kv (fun h115 V => ?_))
            obtain ⟨fs122, w123, V⟩ := V
            refine clq739 (pc := 135) (As := [.ref a104]) (st := []) rfl dX4_parity_135 rfl (Nat.le_of_ble_eq_true rfl) w123 V (fun C119 S120 => wx_ki (fun y121 h118 V => ?_))
            refine wq_pop (pc := 138) dX4_parity_138 rfl ?_
            refine wq_vret (pc := 139) dX4_parity_139 rfl ⟨rfl, V⟩
  · have V := V.2 c
    refine wq_iload_n (pc := 33) dX4_parity_33 rfl rfl ?_
    refine wq_if_le (pc := 34) (tgt := 43) dX4_parity_34 rfl (fun c => ?_) (fun c => ?_)
    · have V := V.1 c
      refine wq_iload_n (pc := 43) dX4_parity_43 rfl rfl ?_
      refine wq_iconst (pc := 44) dX4_parity_44 gsti1 ?_
      refine wq_aload_n (pc := 45) dX4_parity_45 rfl rfl ?_
      refine wq_aload_n (pc := 46) dX4_parity_46 rfl rfl ?_
      refine gfq570 (pc := 47) rfl dX4_parity_47 V (fun a124 V => ?_)
      refine wq_iload_n (pc := 50) dX4_parity_50 rfl rfl ?_
      obtain ⟨fs129, w130, V⟩ := V
      refine clq810 (pc := 51) (As := [.ref a124, .int x1]) (st := [.int (1 : Int32), .int x1]) rfl dX4_parity_51 rfl (Nat.le_of_ble_eq_true rfl) w130 V (fun C126 S127 => wx_ki (fun y128 h125 V => ?_))
      refine wq_ishl (pc := 54) dX4_parity_54 ?_
      refine wq_ior (pc := 55) dX4_parity_55 ?_
      refine wq_istore_n (L' := [some (.ref x0), some (.int (x1 ||| ((1 : Int32) <<< (y128 &&& 31)))), some (.int x2)]) (pc := 56) dX4_parity_56 rfl (Nat.le_of_ble_eq_true rfl) rfl ?_
      refine wq_iinc (L' := [some (.ref x0), some (.int (x1 ||| ((1 : Int32) <<< (y128 &&& 31)))), some (.int (x2 + (1 : Int32)))]) (pc := 57) dX4_parity_57 rfl (by rw [gsti1]) (Nat.le_of_ble_eq_true rfl) rfl ?_
      refine wq_goto (pc := 60) (tgt := 28) dX4_parity_60 rfl ?_
      exact wq_T.less V ⟨rfl, ⟨rfl, ⟨rfl, trivial⟩⟩⟩
    · have V := V.2 c
      refine wq_aload_n (pc := 37) dX4_parity_37 rfl rfl ?_
      refine wq_bipush (pc := 38) dX4_parity_38 gstb44 ?_
      obtain ⟨fs134, w135, V⟩ := V
      refine clq876 (pc := 40) (As := [.int (44 : Int32)]) (st := []) rfl dX4_parity_40 rfl (Nat.le_of_ble_eq_true rfl) w135 V (fun C132 S133 => wx_kv (fun h131 V => ?_))
      refine wq_iload_n (pc := 43) dX4_parity_43 rfl rfl ?_
      refine wq_iconst (pc := 44) dX4_parity_44 gsti1 ?_
      refine wq_aload_n (pc := 45) dX4_parity_45 rfl rfl ?_
      refine wq_aload_n (pc := 46) dX4_parity_46 rfl rfl ?_
      refine gfq570 (pc := 47) rfl dX4_parity_47 V (fun a136 V => ?_)
      refine wq_iload_n (pc := 50) dX4_parity_50 rfl rfl ?_
      obtain ⟨fs141, w142, V⟩ := V
      refine clq810 (pc := 51) (As := [.ref a136, .int x1]) (st := [.int (1 : Int32), .int x1]) rfl dX4_parity_51 rfl (Nat.le_of_ble_eq_true rfl) w142 V (fun C138 S139 => wx_ki (fun y140 h137 V => ?_))
      refine wq_ishl (pc := 54) dX4_parity_54 ?_
      refine wq_ior (pc := 55) dX4_parity_55 ?_
      refine wq_istore_n (L' := [some (.ref x0), some (.int (x1 ||| ((1 : Int32) <<< (y140 &&& 31)))), some (.int x2)]) (pc := 56) dX4_parity_56 rfl (Nat.le_of_ble_eq_true rfl) rfl ?_
      refine wq_iinc (L' := [some (.ref x0), some (.int (x1 ||| ((1 : Int32) <<< (y140 &&& 31)))), some (.int (x2 + (1 : Int32)))]) (pc := 57) dX4_parity_57 rfl (by rw [gsti1]) (Nat.le_of_ble_eq_true rfl) rfl ?_
      refine wq_goto (pc := 60) (tgt := 28) dX4_parity_60 rfl ?_
      exact wq_T.less V ⟨rfl, ⟨rfl, ⟨rfl, trivial⟩⟩⟩
theorem vX4_ray_0 {G : wq_G} {l : Launch} {d C S : Nat} {K : wq_H → Prop} {x0 : Nat} {h : wq_H} (V : wq_gR h x0 [(3, 1)] (fun a1 => wq_gR h a1 [(5, 5)] (fun a2 => ∃ fs7 : List Value, h a2 = some (.inr (16, fs7)) ∧ (wq_ci G l d C S mJ2_size [.ref a2] h (fun y6 h3 C4 S5 => (¬ y6 = (18 : Int32) → ∃ fs12 : List Value, h3 x0 = some (.inr (3, fs12)) ∧ (wq_cw G l d C4 S5 mX4_on [.ref x0] h3 (fun h9 C10 S11 => wq_no G h9 11 [.null] 1 C10 S11 (fun a14 h15 => wq_cw G l d (C10 - 1) (S11 - 1) mX13_init [.ref a14] h15 (fun h16 C17 S18 => wq_T G l d mX4_ray (wq_qv K) 36 [some (.ref x0), some (.ref a14), some (.int (0 : Int32)), some (.int (0 : Int32)), none, none] [] h16 C17 S18))))) ∧ (y6 = (18 : Int32) → ∃ fs22 : List Value, h3 x0 = some (.inr (3, fs22)) ∧ (wq_cw G l d C4 S5 mX4_wrong [.ref x0, .int (5 : Int32)] h3 (fun h19 C20 S21 => ∃ fs27 : List Value, h19 x0 = some (.inr (3, fs27)) ∧ (wq_cw G l d C20 S21 mX4_on [.ref x0] h19 (fun h24 C25 S26 => wq_no G h24 11 [.null] 1 C25 S26 (fun a29 h30 => wq_cw G l d (C25 - 1) (S26 - 1) mX13_init [.ref a29] h30 (fun h31 C32 S33 => wq_T G l d mX4_ray (wq_qv K) 36 [some (.ref x0), some (.ref a29), some (.int (0 : Int32)), some (.int (0 : Int32)), none, none] [] h31 C32 S33)))))))))))) : wq_T G l d mX4_ray (wq_qv K) 0 [some (.ref x0), none, none, none, none, none] [] h C S := by
  refine wq_aload_n (pc := 0) dX4_ray_0 rfl rfl ?_
  refine gfq568 (pc := 1) rfl dX4_ray_1 V (fun a1 V => ?_)
  refine gfq323 (pc := 4) rfl dX4_ray_4 V (fun a2 V => ?_)
  obtain ⟨fs7, w8, V⟩ := V
  refine clq722 (pc := 7) (As := []) (st := []) rfl dX4_ray_7 rfl (Nat.le_of_ble_eq_true rfl) w8 V (fun C4 S5 => wx_ki (fun y6 h3 V => ?_))
  refine wq_bipush (pc := 10) dX4_ray_10 gstb18 ?_
  refine wq_icmp_ne (pc := 12) (tgt := 20) dX4_ray_12 rfl (fun c => ?_) (fun c => ?_)
  · have V := V.1 c
    refine wq_aload_n (pc := 20) dX4_ray_20 rfl rfl ?_
    obtain ⟨fs12, w13, V⟩ := V
    refine clq680 (pc := 21) (As := []) (st := []) rfl dX4_ray_21 rfl (Nat.le_of_ble_eq_true rfl) w13 V (fun C10 S11 => wx_kv (fun h9 V => ?_))
    refine nwq904 (pc := 24) rfl dX4_ray_24 V (fun a14 h15 V => ?_)
    refine wq_dup (pc := 27) dX4_ray_27 rfl ?_
    refine clq906 (pc := 28) (As := []) (st := [.ref a14]) rfl dX4_ray_28 rfl (Nat.le_of_ble_eq_true rfl) V (fun C17 S18 => wx_kv (fun h16 V => ?_))
    refine wq_astore_n (L' := [some (.ref x0), some (.ref a14), none, none, none, none]) (pc := 31) dX4_ray_31 rfl (Nat.le_of_ble_eq_true rfl) rfl ?_
    refine wq_iconst (pc := 32) dX4_ray_32 gsti0 ?_
    refine wq_istore_n (L' := [some (.ref x0), some (.ref a14), some (.int (0 : Int32)), none, none, none]) (pc := 33) dX4_ray_33 rfl (Nat.le_of_ble_eq_true rfl) rfl ?_
    refine wq_iconst (pc := 34) dX4_ray_34 gsti0 ?_
    refine wq_istore_n (L' := [some (.ref x0), some (.ref a14), some (.int (0 : Int32)), some (.int (0 : Int32)), none, none]) (pc := 35) dX4_ray_35 rfl (Nat.le_of_ble_eq_true rfl) rfl ?_
    exact wq_T.less V ⟨rfl, ⟨rfl, ⟨rfl, ⟨rfl, trivial⟩⟩⟩⟩
  · have V := V.2 c
    refine wq_aload_n (pc := 15) dX4_ray_15 rfl rfl ?_
    refine wq_iconst (pc := 16) dX4_ray_16 gsti5 ?_
    obtain ⟨fs22, w23, V⟩ := V
    refine clq672 (pc := 17) (As := [.int (5 : Int32)]) (st := []) rfl dX4_ray_17 rfl (Nat.le_of_ble_eq_true rfl) w23 V (fun C20 S21 => wx_kv (fun h19 V => ?_))
    refine wq_aload_n (pc := 20) dX4_ray_20 rfl rfl ?_
    obtain ⟨fs27, w28, V⟩ := V
    refine clq680 (pc := 21) (As := []) (st := []) rfl dX4_ray_21 rfl (Nat.le_of_ble_eq_true rfl) w28 V (fun C25 S26 => wx_kv (fun h24 V => ?_))
    refine nwq904 (pc := 24) rfl dX4_ray_24 V (fun a29 h30 V => ?_)
    refine wq_dup (pc := 27) dX4_ray_27 rfl ?_
    refine clq906 (pc := 28) (As := []) (st := [.ref a29]) rfl dX4_ray_28 rfl (Nat.le_of_ble_eq_true rfl) V (fun C32 S33 => wx_kv (fun h31 V => ?_))
    refine wq_astore_n (L' := [some (.ref x0), some (.ref a29), none, none, none, none]) (pc := 31) dX4_ray_31 rfl (Nat.le_of_ble_eq_true rfl) rfl ?_
    refine wq_iconst (pc := 32) dX4_ray_32 gsti0 ?_
    refine wq_istore_n (L' := [some (.ref x0), some (.ref a29), some (.int (0 : Int32)), none, none, none]) (pc := 33) dX4_ray_33 rfl (Nat.le_of_ble_eq_true rfl) rfl ?_
    refine wq_iconst (pc := 34) dX4_ray_34 gsti0 ?_
    refine wq_istore_n (L' := [some (.ref x0), some (.ref a29), some (.int (0 : Int32)), some (.int (0 : Int32)), none, none]) (pc := 35) dX4_ray_35 rfl (Nat.le_of_ble_eq_true rfl) rfl ?_
    exact wq_T.less V ⟨rfl, ⟨rfl, ⟨rfl, ⟨rfl, trivial⟩⟩⟩⟩
theorem vX4_ray_36 {G : wq_G} {l : Launch} {d C S : Nat} {K : wq_H → Prop} {x0 : Nat} {x1 : Nat} {x2 : Int32} {x3 : Int32} {h : wq_H} (V : ((4 : Int32) ≤ x3 → ∃ fs5 : List Value, h x0 = some (.inr (3, fs5)) ∧ (wq_ci G l d C S mX4_isOver [.ref x0] h (fun y4 h1 C2 S3 => (¬ y4 = 0 → K h1) ∧ (y4 = 0 → wq_gR h1 x0 [(3, 1)] (fun a7 => wq_gR h1 a7 [(5, 5)] (fun a8 => ∃ fs13 : List Value, h1 a8 = some (.inr (16, fs13)) ∧ (wq_ci G l d C2 S3 mJ2_add [.ref a8, .ref x1] h1 (fun y12 h9 C10 S11 => K h9)))))))) ∧ (¬ (4 : Int32) ≤ x3 → (x3 ≤ 0 → ∃ fs19 : List Value, h x0 = some (.inr (3, fs19)) ∧ (wq_ci G l d C S mX4_eatsSign [.ref x0, .int (45 : Int32)] h (fun y18 h15 C16 S17 => ∃ fs25 : List Value, h15 x0 = some (.inr (3, fs25)) ∧ (wq_ci G l d C16 S17 mX4_bounded [.ref x0, .int (0 : Int32), .int (3 : Int32)] h15 (fun y24 h21 C22 S23 => (¬ x2 = 0 → wq_T G l d mX4_ray (wq_qv K) 81 [some (.ref x0), some (.ref x1), none, some (.int x3), some (.int y18), some (.int y24)] [.int (1 : Int32)] h21 C22 S23) ∧ (x2 = 0 → (y24 ≤ 0 → wq_T G l d mX4_ray (wq_qv K) 81 [some (.ref x0), some (.ref x1), none, some (.int x3), some (.int y18), some (.int y24)] [.int (0 : Int32)] h21 C22 S23) ∧ (¬ y24 ≤ 0 → wq_T G l d mX4_ray (wq_qv K) 81 [some (.ref x0), some (.ref x1), none, some (.int x3), some (.int y18), some (.int y24)] [.int (1 : Int32)] h21 C22 S23))))))) ∧ (¬ x3 ≤ 0 → ∃ fs30 : List Value, h x0 = some (.inr (3, fs30)) ∧ (wq_cw G l d C S mX4_needsSign [.ref x0, .int (44 : Int32)] h (fun h27 C28 S29 => ∃ fs36 : List Value, h27 x0 = some (.inr (3, fs36)) ∧ (wq_ci G l d C28 S29 mX4_eatsSign [.ref x0, .int (45 : Int32)] h27 (fun y35 h32 C33 S34 => ∃ fs42 : List Value, h32 x0 = some (.inr (3, fs42)) ∧ (wq_ci G l d C33 S34 mX4_bounded [.ref x0, .int (0 : Int32), .int (3 : Int32)] h32 (fun y41 h38 C39 S40 => (¬ x2 = 0 → wq_T G l d mX4_ray (wq_qv K) 81 [some (.ref x0), some (.ref x1), none, some (.int x3), some (.int y35), some (.int y41)] [.int (1 : Int32)] h38 C39 S40) ∧ (x2 = 0 → (y41 ≤ 0 → wq_T G l d mX4_ray (wq_qv K) 81 [some (.ref x0), some (.ref x1), none, some (.int x3), some (.int y35), some (.int y41)] [.int (0 : Int32)] h38 C39 S40) ∧ (¬ y41 ≤ 0 → wq_T G l d mX4_ray (wq_qv K) 81 [some (.ref x0), some (.ref x1), none, some (.int x3), some (.int y35), some (.int y41)] [.int (1 : Int32)] h38 C39 S40))))))))))) : wq_T G l d mX4_ray (wq_qv K) 36 [some (.ref x0), some (.ref x1), some (.int x2), some (.int x3), none, none] [] h C S := by
  refine wq_iload_n (pc := 36) dX4_ray_36 rfl rfl ?_
  refine wq_iconst (pc := 37) dX4_ray_37 gsti4 ?_
  refine wq_icmp_ge (pc := 38) (tgt := 125) dX4_ray_38 rfl (fun c => ?_) (fun c => ?_)
  · have V := V.1 c
    refine wq_aload_n (pc := 125) dX4_ray_125 rfl rfl ?_
    obtain ⟨fs5, w6, V⟩ := V
    refine clq676 (pc := 126) (As := []) (st := []) rfl dX4_ray_126 rfl (Nat.le_of_ble_eq_true rfl) w6 V (fun C2 S3 => wx_ki (fun y4 h1 V => ?_))
    refine wq_if_ne (pc := 129) (tgt := 144) dX4_ray_129 rfl (fun c => ?_) (fun c => ?_)
    · have V := V.1 c
      refine wq_vret (pc := 144) dX4_ray_144 rfl ⟨rfl, V⟩
    · have V := V.2 c
      refine wq_aload_n (pc := 132) dX4_ray_132 rfl rfl ?_
      refine gfq568 (pc := 133) rfl dX4_ray_133 V (fun a7 V => ?_)
      refine gfq323 (pc := 136) rfl dX4_ray_136 V (fun a8 V => ?_)
      refine wq_aload_n (pc := 139) dX4_ray_139 rfl rfl ?_
      obtain ⟨fs13, w14, V⟩ := V
      refine clq739 (pc := 140) (As := [.ref x1]) (st := []) rfl dX4_ray_140 rfl (Nat.le_of_ble_eq_true rfl) w14 V (fun C10 S11 => wx_ki (fun y12 h9 V => ?_))
      refine wq_pop (pc := 143) dX4_ray_143 rfl ?_
      refine wq_vret (pc := 144) dX4_ray_144 rfl ⟨rfl, V⟩
  · have V := V.2 c
    refine wq_iload_n (pc := 41) dX4_ray_41 rfl rfl ?_
    refine wq_if_le (pc := 42) (tgt := 51) dX4_ray_42 rfl (fun c => ?_) (fun c => ?_)
    · have V := V.1 c
      refine wq_aload_n (pc := 51) dX4_ray_51 rfl rfl ?_
      refine wq_bipush (pc := 52) dX4_ray_52 gstb45 ?_
      obtain ⟨fs19, w20, V⟩ := V
      refine clq793 (pc := 54) (As := [.int (45 : Int32)]) (st := []) rfl dX4_ray_54 rfl (Nat.le_of_ble_eq_true rfl) w20 V (fun C16 S17 => wx_ki (fun y18 h15 V => ?_))
      refine wq_istore (L' := [some (.ref x0), some (.ref x1), some (.int x2), some (.int x3), some (.int y18), none]) (pc := 57) dX4_ray_57 (Nat.le_of_ble_eq_true rfl) rfl ?_
      refine wq_aload_n (pc := 59) dX4_ray_59 rfl rfl ?_
      refine wq_iconst (pc := 60) dX4_ray_60 gsti0 ?_
      refine wq_iconst (pc := 61) dX4_ray_61 gsti3 ?_
      obtain ⟨fs25, w26, V⟩ := V
      refine clq698 (pc := 62) (As := [.int (0 : Int32), .int (3 : Int32)]) (st := []) rfl dX4_ray_62 rfl (Nat.le_of_ble_eq_true rfl) w26 V (fun C22 S23 => wx_ki (fun y24 h21 V => ?_))
      refine wq_istore (L' := [some (.ref x0), some (.ref x1), some (.int x2), some (.int x3), some (.int y18), some (.int y24)]) (pc := 65) dX4_ray_65 (Nat.le_of_ble_eq_true rfl) rfl ?_
      refine wq_iload_n (pc := 67) dX4_ray_67 rfl rfl ?_
      refine wq_if_ne (pc := 68) (tgt := 76) dX4_ray_68 rfl (fun c => ?_) (fun c => ?_)
      · have V := V.1 c
        refine wq_iconst (pc := 76) dX4_ray_76 gsti1 ?_
        refine wq_goto (pc := 77) (tgt := 81) dX4_ray_77 rfl ?_
        exact wq_T.less V ⟨rfl, ⟨rfl, ⟨rfl, ⟨rfl, ⟨rfl, trivial⟩⟩⟩⟩⟩
      · have V := V.2 c
        refine wq_iload (pc := 71) dX4_ray_71 rfl ?_
        refine wq_if_le (pc := 73) (tgt := 80) dX4_ray_73 rfl (fun c => ?_) (fun c => ?_)
        · have V := V.1 c
          refine wq_iconst (pc := 80) dX4_ray_80 gsti0 ?_
          exact wq_T.less V ⟨rfl, ⟨rfl, ⟨rfl, ⟨rfl, ⟨rfl, trivial⟩⟩⟩⟩⟩
        · have V := V.2 c
          refine wq_iconst (pc := 76) dX4_ray_76 gsti1 ?_
          refine wq_goto (pc := 77) (tgt := 81) dX4_ray_77 rfl ?_
          exact wq_T.less V ⟨rfl, ⟨rfl, ⟨rfl, ⟨rfl, ⟨rfl, trivial⟩⟩⟩⟩⟩
    · have V := V.2 c
      refine wq_aload_n (pc := 45) dX4_ray_45 rfl rfl ?_
      refine wq_bipush (pc := 46) dX4_ray_46 gstb44 ?_
      obtain ⟨fs30, w31, V⟩ := V
      refine clq876 (pc := 48) (As := [.int (44 : Int32)]) (st := []) rfl dX4_ray_48 rfl (Nat.le_of_ble_eq_true rfl) w31 V (fun C28 S29 => wx_kv (fun h27 V => ?_))
      refine wq_aload_n (pc := 51) dX4_ray_51 rfl rfl ?_
      refine wq_bipush (pc := 52) dX4_ray_52 gstb45 ?_
      obtain ⟨fs36, w37, V⟩ := V
      refine clq793 (pc := 54) (As := [.int (45 : Int32)]) (st := []) rfl dX4_ray_54 rfl (Nat.le_of_ble_eq_true rfl) w37 V (fun C33 S34 => wx_ki (fun y35 h32 V => ?_))
      refine wq_istore (L' := [some (.ref x0), some (.ref x1), some (.int x2), some (.int x3), some (.int y35), none]) (pc := 57) dX4_ray_57 (Nat.le_of_ble_eq_true rfl) rfl ?_
      refine wq_aload_n (pc := 59) dX4_ray_59 rfl rfl ?_
      refine wq_iconst (pc := 60) dX4_ray_60 gsti0 ?_
      refine wq_iconst (pc := 61) dX4_ray_61 gsti3 ?_
      obtain ⟨fs42, w43, V⟩ := V
      refine clq698 (pc := 62) (As := [.int (0 : Int32), .int (3 : Int32)]) (st := []) rfl dX4_ray_62 rfl (Nat.le_of_ble_eq_true rfl) w43 V (fun C39 S40 => wx_ki (fun y41 h38 V => ?_))
      refine wq_istore (L' := [some (.ref x0), some (.ref x1), some (.int x2), some (.int x3), some (.int y35), some (.int y41)]) (pc := 65) dX4_ray_65 (Nat.le_of_ble_eq_true rfl) rfl ?_
      refine wq_iload_n (pc := 67) dX4_ray_67 rfl rfl ?_
      refine wq_if_ne (pc := 68) (tgt := 76) dX4_ray_68 rfl (fun c => ?_) (fun c => ?_)
      · have V := V.1 c
        refine wq_iconst (pc := 76) dX4_ray_76 gsti1 ?_
        refine wq_goto (pc := 77) (tgt := 81) dX4_ray_77 rfl ?_
        exact wq_T.less V ⟨rfl, ⟨rfl, ⟨rfl, ⟨rfl, ⟨rfl, trivial⟩⟩⟩⟩⟩
      · have V := V.2 c
        refine wq_iload (pc := 71) dX4_ray_71 rfl ?_
        refine wq_if_le (pc := 73) (tgt := 80) dX4_ray_73 rfl (fun c => ?_) (fun c => ?_)
        · have V := V.1 c
          refine wq_iconst (pc := 80) dX4_ray_80 gsti0 ?_
          exact wq_T.less V ⟨rfl, ⟨rfl, ⟨rfl, ⟨rfl, ⟨rfl, trivial⟩⟩⟩⟩⟩
        · have V := V.2 c
          refine wq_iconst (pc := 76) dX4_ray_76 gsti1 ?_
          refine wq_goto (pc := 77) (tgt := 81) dX4_ray_77 rfl ?_
          exact wq_T.less V ⟨rfl, ⟨rfl, ⟨rfl, ⟨rfl, ⟨rfl, trivial⟩⟩⟩⟩⟩
theorem vX4_ray_81 {G : wq_G} {l : Launch} {d C S : Nat} {K : wq_H → Prop} {x0 : Nat} {x1 : Nat} {x3 : Int32} {x4 : Int32} {x5 : Int32} {z0 : Int32} {h : wq_H} (V : (¬ x3 = (3 : Int32) → ∃ fs4 : List Value, h x0 = some (.inr (3, fs4)) ∧ (wq_cw G l d C S mX4_on [.ref x0] h (fun h1 C2 S3 => wq_gR h1 x1 [(11, 0)] (fun a6 => (x4 = 0 → wq_si G h1 a6 x3 x5 (fun h7 => wq_T G l d mX4_ray (wq_qv K) 36 [some (.ref x0), some (.ref x1), some (.int z0), some (.int (x3 + (1 : Int32))), none, none] [] h7 C2 S3)) ∧ (¬ x4 = 0 → wq_si G h1 a6 x3 (-x5) (fun h8 => wq_T G l d mX4_ray (wq_qv K) 36 [some (.ref x0), some (.ref x1), some (.int z0), some (.int (x3 + (1 : Int32))), none, none] [] h8 C2 S3)))))) ∧ (x3 = (3 : Int32) → (¬ z0 = 0 → ∃ fs12 : List Value, h x0 = some (.inr (3, fs12)) ∧ (wq_cw G l d C S mX4_on [.ref x0] h (fun h9 C10 S11 => wq_gR h9 x1 [(11, 0)] (fun a14 => (x4 = 0 → wq_si G h9 a14 x3 x5 (fun h15 => wq_T G l d mX4_ray (wq_qv K) 36 [some (.ref x0), some (.ref x1), some (.int z0), some (.int (x3 + (1 : Int32))), none, none] [] h15 C10 S11)) ∧ (¬ x4 = 0 → wq_si G h9 a14 x3 (-x5) (fun h16 => wq_T G l d mX4_ray (wq_qv K) 36 [some (.ref x0), some (.ref x1), some (.int z0), some (.int (x3 + (1 : Int32))), none, none] [] h16 C10 S11)))))) ∧ (z0 = 0 → ∃ fs20 : List Value, h x0 = some (.inr (3, fs20)) ∧ (wq_cw G l d C S mX4_wrong [.ref x0, .int (4 : Int32)] h (fun h17 C18 S19 => ∃ fs25 : List Value, h17 x0 = some (.inr (3, fs25)) ∧ (wq_cw G l d C18 S19 mX4_on [.ref x0] h17 (fun h22 C23 S24 => wq_gR h22 x1 [(11, 0)] (fun a27 => (x4 = 0 → wq_si G h22 a27 x3 x5 (fun h28 => wq_T G l d mX4_ray (wq_qv K) 36 [some (.ref x0), some (.ref x1), some (.int z0), some (.int (x3 + (1 : Int32))), none, none] [] h28 C23 S24)) ∧ (¬ x4 = 0 → wq_si G h22 a27 x3 (-x5) (fun h29 => wq_T G l d mX4_ray (wq_qv K) 36 [some (.ref x0), some (.ref x1), some (.int z0), some (.int (x3 + (1 : Int32))), none, none] [] h29 C23 S24)))))))))) : wq_T G l d mX4_ray (wq_qv K) 81 [some (.ref x0), some (.ref x1), none, some (.int x3), some (.int x4), some (.int x5)] [.int z0] h C S := by
  refine wq_istore_n (L' := [some (.ref x0), some (.ref x1), some (.int z0), some (.int x3), some (.int x4), some (.int x5)]) (pc := 81) dX4_ray_81 rfl (Nat.le_of_ble_eq_true rfl) rfl ?_
  refine wq_iload_n (pc := 82) dX4_ray_82 rfl rfl ?_
  refine wq_iconst (pc := 83) dX4_ray_83 gsti3 ?_
  refine wq_icmp_ne (pc := 84) (tgt := 96) dX4_ray_84 rfl (fun c => ?_) (fun c => ?_)
  · have V := V.1 c
    refine wq_aload_n (pc := 96) dX4_ray_96 rfl rfl ?_
    obtain ⟨fs4, w5, V⟩ := V
    refine clq680 (pc := 97) (As := []) (st := []) rfl dX4_ray_97 rfl (Nat.le_of_ble_eq_true rfl) w5 V (fun C2 S3 => wx_kv (fun h1 V => ?_))
    refine wq_aload_n (pc := 100) dX4_ray_100 rfl rfl ?_
    refine gfq911 (pc := 101) rfl dX4_ray_101 V (fun a6 V => ?_)
    refine wq_iload_n (pc := 104) dX4_ray_104 rfl rfl ?_
    refine wq_iload (pc := 105) dX4_ray_105 rfl ?_
    refine wq_if_eq (pc := 107) (tgt := 116) dX4_ray_107 rfl (fun c => ?_) (fun c => ?_)
    · have V := V.1 c
      refine wq_iload (pc := 116) dX4_ray_116 rfl ?_
      refine wx_si (pc := 118) dX4_ray_118 V (fun h7 V => ?_)
      refine wq_iinc (L' := [some (.ref x0), some (.ref x1), some (.int z0), some (.int (x3 + (1 : Int32))), some (.int x4), some (.int x5)]) (pc := 119) dX4_ray_119 rfl (by rw [gsti1]) (Nat.le_of_ble_eq_true rfl) rfl ?_
      refine wq_goto (pc := 122) (tgt := 36) dX4_ray_122 rfl ?_
      exact wq_T.less V ⟨rfl, ⟨rfl, ⟨rfl, ⟨rfl, trivial⟩⟩⟩⟩
    · have V := V.2 c
      refine wq_iload (pc := 110) dX4_ray_110 rfl ?_
      refine wq_ineg (pc := 112) dX4_ray_112 ?_
      refine wq_goto (pc := 113) (tgt := 118) dX4_ray_113 rfl ?_
      refine wx_si (pc := 118) dX4_ray_118 V (fun h8 V => ?_)
      refine wq_iinc (L' := [some (.ref x0), some (.ref x1), some (.int z0), some (.int (x3 + (1 : Int32))), some (.int x4), some (.int x5)]) (pc := 119) dX4_ray_119 rfl (by rw [gsti1]) (Nat.le_of_ble_eq_true rfl) rfl ?_
      refine wq_goto (pc := 122) (tgt := 36) dX4_ray_122 rfl ?_
      exact wq_T.less V ⟨rfl, ⟨rfl, ⟨rfl, ⟨rfl, trivial⟩⟩⟩⟩
  · have V := V.2 c
    refine wq_iload_n (pc := 87) dX4_ray_87 rfl rfl ?_
    refine wq_if_ne (pc := 88) (tgt := 96) dX4_ray_88 rfl (fun c => ?_) (fun c => ?_)
    · have V := V.1 c
      refine wq_aload_n (pc := 96) dX4_ray_96 rfl rfl ?_
      obtain ⟨fs12, w13, V⟩ := V
      refine clq680 (pc := 97) (As := []) (st := []) rfl dX4_ray_97 rfl (Nat.le_of_ble_eq_true rfl) w13 V (fun C10 S11 => wx_kv (fun h9 V => ?_))
      refine wq_aload_n (pc := 100) dX4_ray_100 rfl rfl ?_
      refine gfq911 (pc := 101) rfl dX4_ray_101 V (fun a14 V => ?_)
      refine wq_iload_n (pc := 104) dX4_ray_104 rfl rfl ?_
      refine wq_iload (pc := 105) dX4_ray_105 rfl ?_
      refine wq_if_eq (pc := 107) (tgt := 116) dX4_ray_107 rfl (fun c => ?_) (fun c => ?_)
      · have V := V.1 c
        refine wq_iload (pc := 116) dX4_ray_116 rfl ?_
        refine wx_si (pc := 118) dX4_ray_118 V (fun h15 V => ?_)
        refine wq_iinc (L' := [some (.ref x0), some (.ref x1), some (.int z0), some (.int (x3 + (1 : Int32))), some (.int x4), some (.int x5)]) (pc := 119) dX4_ray_119 rfl (by rw [gsti1]) (Nat.le_of_ble_eq_true rfl) rfl ?_
        refine wq_goto (pc := 122) (tgt := 36) dX4_ray_122 rfl ?_
        exact wq_T.less V ⟨rfl, ⟨rfl, ⟨rfl, ⟨rfl, trivial⟩⟩⟩⟩
      · have V := V.2 c
        refine wq_iload (pc := 110) dX4_ray_110 rfl ?_
        refine wq_ineg (pc := 112) dX4_ray_112 ?_
        refine wq_goto (pc := 113) (tgt := 118) dX4_ray_113 rfl ?_
        refine wx_si (pc := 118) dX4_ray_118 V (fun h16 V => ?_)
        refine wq_iinc (L' := [some (.ref x0), some (.ref x1), some (.int z0), some (.int (x3 + (1 : Int32))), some (.int x4), some (.int x5)]) (pc := 119) dX4_ray_119 rfl (by rw [gsti1]) (Nat.le_of_ble_eq_true rfl) rfl ?_
        refine wq_goto (pc := 122) (tgt := 36) dX4_ray_122 rfl ?_
        exact wq_T.less V ⟨rfl, ⟨rfl, ⟨rfl, ⟨rfl, trivial⟩⟩⟩⟩
    · have V := V.2 c
      refine wq_aload_n (pc := 91) dX4_ray_91 rfl rfl ?_
      refine wq_iconst (pc := 92) dX4_ray_92 gsti4 ?_
      obtain ⟨fs20, w21, V⟩ := V
      refine clq672 (pc := 93) (As := [.int (4 : Int32)]) (st := []) rfl dX4_ray_93 rfl (Nat.le_of_ble_eq_true rfl) w21 V (fun C18 S19 => wx_kv (fun h17 V => ?_))
      refine wq_aload_n (pc := 96) dX4_ray_96 rfl rfl ?_
      obtain ⟨fs25, w26, V⟩ := V
      refine clq680 (pc := 97) (As := []) (st := []) rfl dX4_ray_97 rfl (Nat.le_of_ble_eq_true rfl) w26 V (fun C23 S24 => wx_kv (fun h22 V => ?_))
      refine wq_aload_n (pc := 100) dX4_ray_100 rfl rfl ?_
      refine gfq911 (pc := 101) rfl dX4_ray_101 V (fun a27 V => ?_)
      refine wq_iload_n (pc := 104) dX4_ray_104 rfl rfl ?_
      refine wq_iload (pc := 105) dX4_ray_105 rfl ?_
      refine wq_if_eq (pc := 107) (tgt := 116) dX4_ray_107 rfl (fun c => ?_) (fun c => ?_)
      · have V := V.1 c
        refine wq_iload (pc := 116) dX4_ray_116 rfl ?_
        refine wx_si (pc := 118) dX4_ray_118 V (fun h28 V => ?_)
        refine wq_iinc (L' := [some (.ref x0), some (.ref x1), some (.int z0), some (.int (x3 + (1 : Int32))), some (.int x4), some (.int x5)]) (pc := 119) dX4_ray_119 rfl (by rw [gsti1]) (Nat.le_of_ble_eq_true rfl) rfl ?_
        refine wq_goto (pc := 122) (tgt := 36) dX4_ray_122 rfl ?_
        exact wq_T.less V ⟨rfl, ⟨rfl, ⟨rfl, ⟨rfl, trivial⟩⟩⟩⟩
      · have V := V.2 c
        refine wq_iload (pc := 110) dX4_ray_110 rfl ?_
        refine wq_ineg (pc := 112) dX4_ray_112 ?_
        refine wq_goto (pc := 113) (tgt := 118) dX4_ray_113 rfl ?_
        refine wx_si (pc := 118) dX4_ray_118 V (fun h29 V => ?_)
        refine wq_iinc (L' := [some (.ref x0), some (.ref x1), some (.int z0), some (.int (x3 + (1 : Int32))), some (.int x4), some (.int x5)]) (pc := 119) dX4_ray_119 rfl (by rw [gsti1]) (Nat.le_of_ble_eq_true rfl) rfl ?_
        refine wq_goto (pc := 122) (tgt := 36) dX4_ray_122 rfl ?_
        exact wq_T.less V ⟨rfl, ⟨rfl, ⟨rfl, ⟨rfl, trivial⟩⟩⟩⟩
theorem vX4_run_0 {G : wq_G} {l : Launch} {d C S : Nat} {K : wq_H → Prop} {x0 : Nat} {h : wq_H} (V : wq_gR h x0 [(3, 1)] (fun a1 => wq_gR h a1 [(5, 6)] (fun a2 => ∃ fs7 : List Value, h a2 = some (.inr (16, fs7)) ∧ (wq_ci G l d C S mJ2_size [.ref a2] h (fun y6 h3 C4 S5 => (¬ y6 = (4 : Int32) → ∃ fs12 : List Value, h3 x0 = some (.inr (3, fs12)) ∧ (wq_cw G l d C4 S5 mX4_on [.ref x0] h3 (fun h9 C10 S11 => wq_no G h9 12 [.null, .null, .int 0] 3 C10 S11 (fun a14 h15 => wq_cw G l d (C10 - 1) (S11 - 3) mX14_init [.ref a14] h15 (fun h16 C17 S18 => wq_T G l d mX4_run (wq_qv K) 31 [some (.ref x0), some (.ref a14), none, none] [] h16 C17 S18))))) ∧ (y6 = (4 : Int32) → ∃ fs22 : List Value, h3 x0 = some (.inr (3, fs22)) ∧ (wq_cw G l d C4 S5 mX4_wrong [.ref x0, .int (5 : Int32)] h3 (fun h19 C20 S21 => ∃ fs27 : List Value, h19 x0 = some (.inr (3, fs27)) ∧ (wq_cw G l d C20 S21 mX4_on [.ref x0] h19 (fun h24 C25 S26 => wq_no G h24 12 [.null, .null, .int 0] 3 C25 S26 (fun a29 h30 => wq_cw G l d (C25 - 1) (S26 - 3) mX14_init [.ref a29] h30 (fun h31 C32 S33 => wq_T G l d mX4_run (wq_qv K) 31 [some (.ref x0), some (.ref a29), none, none] [] h31 C32 S33)))))))))))) : wq_T G l d mX4_run (wq_qv K) 0 [some (.ref x0), none, none, none] [] h C S := by
  refine wq_aload_n (pc := 0) dX4_run_0 rfl rfl ?_
  refine gfq568 (pc := 1) rfl dX4_run_1 V (fun a1 V => ?_)
  refine gfq326 (pc := 4) rfl dX4_run_4 V (fun a2 V => ?_)
  obtain ⟨fs7, w8, V⟩ := V
  refine clq722 (pc := 7) (As := []) (st := []) rfl dX4_run_7 rfl (Nat.le_of_ble_eq_true rfl) w8 V (fun C4 S5 => wx_ki (fun y6 h3 V => ?_))
  refine wq_iconst (pc := 10) dX4_run_10 gsti4 ?_
  refine wq_icmp_ne (pc := 11) (tgt := 19) dX4_run_11 rfl (fun c => ?_) (fun c => ?_)
  · have V := V.1 c
    refine wq_aload_n (pc := 19) dX4_run_19 rfl rfl ?_
    obtain ⟨fs12, w13, V⟩ := V
    refine clq680 (pc := 20) (As := []) (st := []) rfl dX4_run_20 rfl (Nat.le_of_ble_eq_true rfl) w13 V (fun C10 S11 => wx_kv (fun h9 V => ?_))
    refine nwq919 (pc := 23) rfl dX4_run_23 V (fun a14 h15 V => ?_)
    refine wq_dup (pc := 26) dX4_run_26 rfl ?_
    refine clq921 (pc := 27) (As := []) (st := [.ref a14]) rfl dX4_run_27 rfl (Nat.le_of_ble_eq_true rfl) V (fun C17 S18 => wx_kv (fun h16 V => ?_))
    refine wq_astore_n (L' := [some (.ref x0), some (.ref a14), none, none]) (pc := 30) dX4_run_30 rfl (Nat.le_of_ble_eq_true rfl) rfl ?_
    exact wq_T.less V ⟨rfl, ⟨rfl, trivial⟩⟩
  · have V := V.2 c
    refine wq_aload_n (pc := 14) dX4_run_14 rfl rfl ?_
    refine wq_iconst (pc := 15) dX4_run_15 gsti5 ?_
    obtain ⟨fs22, w23, V⟩ := V
    refine clq672 (pc := 16) (As := [.int (5 : Int32)]) (st := []) rfl dX4_run_16 rfl (Nat.le_of_ble_eq_true rfl) w23 V (fun C20 S21 => wx_kv (fun h19 V => ?_))
    refine wq_aload_n (pc := 19) dX4_run_19 rfl rfl ?_
    obtain ⟨fs27, w28, V⟩ := V
    refine clq680 (pc := 20) (As := []) (st := []) rfl dX4_run_20 rfl (Nat.le_of_ble_eq_true rfl) w28 V (fun C25 S26 => wx_kv (fun h24 V => ?_))
    refine nwq919 (pc := 23) rfl dX4_run_23 V (fun a29 h30 V => ?_)
    refine wq_dup (pc := 26) dX4_run_26 rfl ?_
    refine clq921 (pc := 27) (As := []) (st := [.ref a29]) rfl dX4_run_27 rfl (Nat.le_of_ble_eq_true rfl) V (fun C32 S33 => wx_kv (fun h31 V => ?_))
    refine wq_astore_n (L' := [some (.ref x0), some (.ref a29), none, none]) (pc := 30) dX4_run_30 rfl (Nat.le_of_ble_eq_true rfl) rfl ?_
    exact wq_T.less V ⟨rfl, ⟨rfl, trivial⟩⟩
theorem vX4_run_31 {G : wq_G} {l : Launch} {d C S : Nat} {K : wq_H → Prop} {x0 : Nat} {x1 : Nat} {h : wq_H} (V : wq_gR h x0 [(3, 2)] (fun a1 => ∃ fs6 : List Value, h x0 = some (.inr (3, fs6)) ∧ (wq_ci G l d C S mX4_known [.ref x0, .ref a1, .int (0 : Int32)] h (fun y5 h2 C3 S4 => wq_gI h2 x1 [(12, 2)] (fun y8 => (¬ y8 = (6 : Int32) → ∃ fs12 : List Value, h2 x0 = some (.inr (3, fs12)) ∧ (wq_cw G l d C3 S4 mX4_on [.ref x0] h2 (fun h9 C10 S11 => ∃ fs18 : List Value, h9 x0 = some (.inr (3, fs18)) ∧ (wq_ci G l d C10 S11 mX4_whole [.ref x0, .int (0 : Int32), .int (1 : Int32)] h9 (fun y17 h14 C15 S16 => ∃ fs24 : List Value, h14 x0 = some (.inr (3, fs24)) ∧ (wq_ci G l d C15 S16 mX4_isOver [.ref x0] h14 (fun y23 h20 C21 S22 => (y23 = 0 → wq_gR h20 x1 [(12, 0)] (fun a26 => wq_gI h20 x1 [(12, 2)] (fun y27 => wq_si G h20 a26 y27 y5 (fun h28 => wq_gR h28 x1 [(12, 1)] (fun a29 => wq_gI h28 x1 [(12, 2)] (fun y30 => wq_si G h28 a29 y30 y17 (fun h31 => wq_gI h31 x1 [(12, 2)] (fun y32 => wq_pf G h31 x1 [(12, 2)] (.int (y32 + (1 : Int32))) (fun h33 => ∃ fs38 : List Value, h33 x0 = some (.inr (3, fs38)) ∧ (wq_ci G l d C21 S22 mX4_eatsSign [.ref x0, .int (44 : Int32)] h33 (fun y37 h34 C35 S36 => (¬ y37 = 0 → wq_T G l d mX4_run (wq_qv K) 31 [some (.ref x0), some (.ref x1), none, none] [] h34 C35 S36) ∧ (y37 = 0 → wq_gR h34 x0 [(3, 1)] (fun a40 => wq_gR h34 a40 [(5, 6)] (fun a41 => ∃ fs46 : List Value, h34 a41 = some (.inr (16, fs46)) ∧ (wq_ci G l d C35 S36 mJ2_add [.ref a41, .ref x1] h34 (fun y45 h42 C43 S44 => K h42)))))))))))))))) ∧ (¬ y23 = 0 → K h20)))))))) ∧ (y8 = (6 : Int32) → ∃ fs51 : List Value, h2 x0 = some (.inr (3, fs51)) ∧ (wq_cw G l d C3 S4 mX4_wrong [.ref x0, .int (5 : Int32)] h2 (fun h48 C49 S50 => ∃ fs56 : List Value, h48 x0 = some (.inr (3, fs56)) ∧ (wq_cw G l d C49 S50 mX4_on [.ref x0] h48 (fun h53 C54 S55 => ∃ fs62 : List Value, h53 x0 = some (.inr (3, fs62)) ∧ (wq_ci G l d C54 S55 mX4_whole [.ref x0, .int (0 : Int32), .int (1 : Int32)] h53 (fun y61 h58 C59 S60 => ∃ fs68 : List Value, h58 x0 = some (.inr (3, fs68)) ∧ (wq_ci G l d C59 S60 mX4_isOver [.ref x0] h58 (fun y67 h64 C65 S66 => (y67 = 0 → wq_gR h64 x1 [(12, 0)] (fun a70 => wq_gI h64 x1 [(12, 2)] (fun y71 => wq_si G h64 a70 y71 y5 (fun h72 => wq_gR h72 x1 [(12, 1)] (fun a73 => wq_gI h72 x1 [(12, 2)] (fun y74 => wq_si G h72 a73 y74 y61 (fun h75 => wq_gI h75 x1 [(12, 2)] (fun y76 => wq_pf G h75 x1 [(12, 2)] (.int (y76 + (1 : Int32))) (fun h77 => ∃ fs82 : List Value, h77 x0 = some (.inr (3, fs82)) ∧ (wq_ci G l d C65 S66 mX4_eatsSign [.ref x0, .int (44 : Int32)] h77 (fun y81 h78 C79 S80 => (¬ y81 = 0 → wq_T G l d mX4_run (wq_qv K) 31 [some (.ref x0), some (.ref x1), none, none] [] h78 C79 S80) ∧ (y81 = 0 → wq_gR h78 x0 [(3, 1)] (fun a84 => wq_gR h78 a84 [(5, 6)] (fun a85 => ∃ fs90 : List Value, h78 a85 = some (.inr (16, fs90)) ∧ (wq_ci G l d C79 S80 mJ2_add [.ref a85, .ref x1] h78 (fun y89 h86 C87 S88 => K h86)))))))))))))))) ∧ (¬ y67 = 0 → K h64))))))))))))))) : wq_T G l d mX4_run (wq_qv K) 31 [some (.ref x0), some (.ref x1), none, none] [] h C S := by
  refine wq_aload_n (pc := 31) dX4_run_31 rfl rfl ?_
  refine wq_aload_n (pc := 32) dX4_run_32 rfl rfl ?_
  refine gfq569 (pc := 33) rfl dX4_run_33 V (fun a1 V => ?_)
  refine wq_iconst (pc := 36) dX4_run_36 gsti0 ?_
  obtain ⟨fs6, w7, V⟩ := V
  refine clq814 (pc := 37) (As := [.ref a1, .int (0 : Int32)]) (st := []) rfl dX4_run_37 rfl (Nat.le_of_ble_eq_true rfl) w7 V (fun C3 S4 => wx_ki (fun y5 h2 V => ?_))
  refine wq_istore_n (L' := [some (.ref x0), some (.ref x1), some (.int y5), none]) (pc := 40) dX4_run_40 rfl (Nat.le_of_ble_eq_true rfl) rfl ?_
  refine wq_aload_n (pc := 41) dX4_run_41 rfl rfl ?_
  refine gfq932 (pc := 42) rfl dX4_run_42 V (fun y8 V => ?_)
  refine wq_bipush (pc := 45) dX4_run_45 gstb6 ?_
  refine wq_icmp_ne (pc := 47) (tgt := 55) dX4_run_47 rfl (fun c => ?_) (fun c => ?_)
  · have V := V.1 c
    refine wq_aload_n (pc := 55) dX4_run_55 rfl rfl ?_
    obtain ⟨fs12, w13, V⟩ := V
    refine clq680 (pc := 56) (As := []) (st := []) rfl dX4_run_56 rfl (Nat.le_of_ble_eq_true rfl) w13 V (fun C10 S11 => wx_kv (fun h9 V => ?_))
    refine wq_aload_n (pc := 59) dX4_run_59 rfl rfl ?_
    refine wq_iconst (pc := 60) dX4_run_60 gsti0 ?_
    refine wq_iconst (pc := 61) dX4_run_61 gsti1 ?_
    obtain ⟨fs18, w19, V⟩ := V
    refine clq694 (pc := 62) (As := [.int (0 : Int32), .int (1 : Int32)]) (st := []) rfl dX4_run_62 rfl (Nat.le_of_ble_eq_true rfl) w19 V (fun C15 S16 => wx_ki (fun y17 h14 V => ?_))
    refine wq_istore_n (L' := [some (.ref x0), some (.ref x1), some (.int y5), some (.int y17)]) (pc := 65) dX4_run_65 rfl (Nat.le_of_ble_eq_true rfl) rfl ?_
    refine wq_aload_n (pc := 66) dX4_run_66 rfl rfl ?_
    obtain ⟨fs24, w25, V⟩ := V
    refine clq676 (pc := 67) (As := []) (st := []) rfl dX4_run_67 rfl (Nat.le_of_ble_eq_true rfl) w25 V (fun C21 S22 => wx_ki (fun y23 h20 V => ?_))
    refine wq_if_eq (pc := 70) (tgt := 74) dX4_run_70 rfl (fun c => ?_) (fun c => ?_)
    · have V := V.1 c
      refine wq_aload_n (pc := 74) dX4_run_74 rfl rfl ?_
      refine gfq927 (pc := 75) rfl dX4_run_75 V (fun a26 V => ?_)
      refine wq_aload_n (pc := 78) dX4_run_78 rfl rfl ?_
      refine gfq932 (pc := 79) rfl dX4_run_79 V (fun y27 V => ?_)
      refine wq_iload_n (pc := 82) dX4_run_82 rfl rfl ?_
      refine wx_si (pc := 83) dX4_run_83 V (fun h28 V => ?_)
      refine wq_aload_n (pc := 84) dX4_run_84 rfl rfl ?_
      refine gfq930 (pc := 85) rfl dX4_run_85 V (fun a29 V => ?_)
      refine wq_aload_n (pc := 88) dX4_run_88 rfl rfl ?_
      refine gfq932 (pc := 89) rfl dX4_run_89 V (fun y30 V => ?_)
      refine wq_iload_n (pc := 92) dX4_run_92 rfl rfl ?_
      refine wx_si (pc := 93) dX4_run_93 V (fun h31 V => ?_)
      refine wq_aload_n (pc := 94) dX4_run_94 rfl rfl ?_
      refine wq_dup (pc := 95) dX4_run_95 rfl ?_
      refine gfq932 (pc := 96) rfl dX4_run_96 V (fun y32 V => ?_)
      refine wq_iconst (pc := 99) dX4_run_99 gsti1 ?_
      refine wq_iadd (pc := 100) dX4_run_100 ?_
      refine pfq932 (pc := 101) rfl dX4_run_101 ⟨rfl, rfl⟩ V (fun h33 V => ?_)
      refine wq_aload_n (pc := 104) dX4_run_104 rfl rfl ?_
      refine wq_bipush (pc := 105) dX4_run_105 gstb44 ?_
      obtain ⟨fs38, w39, V⟩ := V
      refine clq793 (pc := 107) (As := [.int (44 : Int32)]) (st := []) rfl dX4_run_107 rfl (Nat.le_of_ble_eq_true rfl) w39 V (fun C35 S36 => wx_ki (fun y37 h34 V => ?_))
      refine wq_if_ne (pc := 110) (tgt := 31) dX4_run_110 rfl (fun c => ?_) (fun c => ?_)
      · have V := V.1 c
        exact wq_T.less V ⟨rfl, ⟨rfl, trivial⟩⟩
      · have V := V.2 c
        refine wq_aload_n (pc := 113) dX4_run_113 rfl rfl ?_
        refine gfq568 (pc := 114) rfl dX4_run_114 V (fun a40 V => ?_)
        refine gfq326 (pc := 117) rfl dX4_run_117 V (fun a41 V => ?_)
        refine wq_aload_n (pc := 120) dX4_run_120 rfl rfl ?_
        obtain ⟨fs46, w47, V⟩ := V
        refine clq739 (pc := 121) (As := [.ref x1]) (st := []) rfl dX4_run_121 rfl (Nat.le_of_ble_eq_true rfl) w47 V (fun C43 S44 => wx_ki (fun y45 h42 V => ?_))
        refine wq_pop (pc := 124) dX4_run_124 rfl ?_
        refine wq_vret (pc := 125) dX4_run_125 rfl ⟨rfl, V⟩
    · have V := V.2 c
      refine wq_vret (pc := 73) dX4_run_73 rfl ⟨rfl, V⟩
  · have V := V.2 c
    refine wq_aload_n (pc := 50) dX4_run_50 rfl rfl ?_
    refine wq_iconst (pc := 51) dX4_run_51 gsti5 ?_
    obtain ⟨fs51, w52, V⟩ := V
    refine clq672 (pc := 52) (As := [.int (5 : Int32)]) (st := []) rfl dX4_run_52 rfl (Nat.le_of_ble_eq_true rfl) w52 V (fun C49 S50 => wx_kv (fun h48 V => ?_))
    refine wq_aload_n (pc := 55) dX4_run_55 rfl rfl ?_
    obtain ⟨fs56, w57, V⟩ := V
    refine clq680 (pc := 56) (As := []) (st := []) rfl dX4_run_56 rfl (Nat.le_of_ble_eq_true rfl) w57 V (fun C54 S55 => wx_kv (fun h53 V => ?_))
    refine wq_aload_n (pc := 59) dX4_run_59 rfl rfl ?_
    refine wq_iconst (pc := 60) dX4_run_60 gsti0 ?_
    refine wq_iconst (pc := 61) dX4_run_61 gsti1 ?_
    obtain ⟨fs62, w63, V⟩ := V
    refine clq694 (pc := 62) (As := [.int (0 : Int32), .int (1 : Int32)]) (st := []) rfl dX4_run_62 rfl (Nat.le_of_ble_eq_true rfl) w63 V (fun C59 S60 => wx_ki (fun y61 h58 V => ?_))
    refine wq_istore_n (L' := [some (.ref x0), some (.ref x1), some (.int y5), some (.int y61)]) (pc := 65) dX4_run_65 rfl (Nat.le_of_ble_eq_true rfl) rfl ?_
    refine wq_aload_n (pc := 66) dX4_run_66 rfl rfl ?_
    obtain ⟨fs68, w69, V⟩ := V
    refine clq676 (pc := 67) (As := []) (st := []) rfl dX4_run_67 rfl (Nat.le_of_ble_eq_true rfl) w69 V (fun C65 S66 => wx_ki (fun y67 h64 V => ?_))
    refine wq_if_eq (pc := 70) (tgt := 74) dX4_run_70 rfl (fun c => ?_) (fun c => ?_)
    · have V := V.1 c
      refine wq_aload_n (pc := 74) dX4_run_74 rfl rfl ?_
      refine gfq927 (pc := 75) rfl dX4_run_75 V (fun a70 V => ?_)
      refine wq_aload_n (pc := 78) dX4_run_78 rfl rfl ?_
      refine gfq932 (pc := 79) rfl dX4_run_79 V (fun y71 V => ?_)
      refine wq_iload_n (pc := 82) dX4_run_82 rfl rfl ?_
      refine wx_si (pc := 83) dX4_run_83 V (fun h72 V => ?_)
      refine wq_aload_n (pc := 84) dX4_run_84 rfl rfl ?_
      refine gfq930 (pc := 85) rfl dX4_run_85 V (fun a73 V => ?_)
      refine wq_aload_n (pc := 88) dX4_run_88 rfl rfl ?_
      refine gfq932 (pc := 89) rfl dX4_run_89 V (fun y74 V => ?_)
      refine wq_iload_n (pc := 92) dX4_run_92 rfl rfl ?_
      refine wx_si (pc := 93) dX4_run_93 V (fun h75 V => ?_)
      refine wq_aload_n (pc := 94) dX4_run_94 rfl rfl ?_
      refine wq_dup (pc := 95) dX4_run_95 rfl ?_
      refine gfq932 (pc := 96) rfl dX4_run_96 V (fun y76 V => ?_)
      refine wq_iconst (pc := 99) dX4_run_99 gsti1 ?_
      refine wq_iadd (pc := 100) dX4_run_100 ?_
      refine pfq932 (pc := 101) rfl dX4_run_101 ⟨rfl, rfl⟩ V (fun h77 V => ?_)
      refine wq_aload_n (pc := 104) dX4_run_104 rfl rfl ?_
      refine wq_bipush (pc := 105) dX4_run_105 gstb44 ?_
      obtain ⟨fs82, w83, V⟩ := V
      refine clq793 (pc := 107) (As := [.int (44 : Int32)]) (st := []) rfl dX4_run_107 rfl (Nat.le_of_ble_eq_true rfl) w83 V (fun C79 S80 => wx_ki (fun y81 h78 V => ?_))
      refine wq_if_ne (pc := 110) (tgt := 31) dX4_run_110 rfl (fun c => ?_) (fun c => ?_)
      · have V := V.1 c
        exact wq_T.less V ⟨rfl, ⟨rfl, trivial⟩⟩
      · have V := V.2 c
        refine wq_aload_n (pc := 113) dX4_run_113 rfl rfl ?_
        refine gfq568 (pc := 114) rfl dX4_run_114 V (fun a84 V => ?_)
        refine gfq326 (pc := 117) rfl dX4_run_117 V (fun a85 V => ?_)
        refine wq_aload_n (pc := 120) dX4_run_120 rfl rfl ?_
        obtain ⟨fs90, w91, V⟩ := V
        refine clq739 (pc := 121) (As := [.ref x1]) (st := []) rfl dX4_run_121 rfl (Nat.le_of_ble_eq_true rfl) w91 V (fun C87 S88 => wx_ki (fun y89 h86 V => ?_))
        refine wq_pop (pc := 124) dX4_run_124 rfl ?_
        refine wq_vret (pc := 125) dX4_run_125 rfl ⟨rfl, V⟩
    · have V := V.2 c
      refine wq_vret (pc := 73) dX4_run_73 rfl ⟨rfl, V⟩
theorem vX5_init_0 {G : wq_G} {l : Launch} {d C S : Nat} {K : wq_H → Prop} (hd1 : 1 ≤ d) {x0 : Nat} {x1 : Nat} {x2 : Int32} {h : wq_H} (V : wq_pf G h x0 [(4, 0)] (.ref x1) (fun h1 => wq_pf G h1 x0 [(4, 1)] (.int x2) (fun h2 => K h2))) : wq_T G l d mX5_init (wq_qv K) 0 [some (.ref x0), some (.ref x1), some (.int x2)] [] h C S := by
  refine wq_aload_n (pc := 0) dX5_init_0 rfl rfl ?_
  refine wq_objInit (pc := 1) q270 q157 q158 dX5_init_1 (Nat.le_of_ble_eq_true rfl) hd1 ?_
  refine wq_aload_n (pc := 4) dX5_init_4 rfl rfl ?_
  refine wq_aload_n (pc := 5) dX5_init_5 rfl rfl ?_
  refine pfq271 (pc := 6) rfl rfl dX5_init_6 (wq_nfr rfl (some x1)) V (fun h1 V => ?_)
  refine wq_aload_n (pc := 9) dX5_init_9 rfl rfl ?_
  refine wq_iload_n (pc := 10) dX5_init_10 rfl rfl ?_
  refine pfq272 (pc := 11) rfl rfl dX5_init_11 ⟨rfl, rfl⟩ V (fun h2 V => ?_)
  refine wq_vret (pc := 14) dX5_init_14 rfl ⟨rfl, V⟩
theorem vX5_next_0 {G : wq_G} {l : Launch} {d C S : Nat} {K : Option Nat → wq_H → Prop} {x0 : Nat} {h : wq_H} (V : ∃ fs5 : List Value, h x0 = some (.inr (4, fs5)) ∧ (wq_ci G l d C S mX5_look [.ref x0] h (fun y4 h1 C2 S3 => (¬ y4 = (32 : Int32) → wq_gI h1 x0 [(4, 2)] (fun y7 => wq_gI h1 x0 [(4, 2)] (fun y8 => wq_gI h1 x0 [(4, 1)] (fun y9 => (¬ y8 = y9 → ∃ fs14 : List Value, h1 x0 = some (.inr (4, fs14)) ∧ (wq_ci G l d C2 S3 mX5_look [.ref x0] h1 (fun y13 h10 C11 S12 => wq_ci G l d C11 S12 mX1_in [.int y13, .int (97 : Int32), .int (122 : Int32)] h10 (fun y19 h16 C17 S18 => (y19 = 0 → ∃ fs24 : List Value, h16 x0 = some (.inr (4, fs24)) ∧ (wq_ci G l d C17 S18 mX5_look [.ref x0] h16 (fun y23 h20 C21 S22 => wq_ci G l d C21 S22 mX1_in [.int y23, .int (48 : Int32), .int (57 : Int32)] h20 (fun y29 h26 C27 S28 => (y29 = 0 → ∃ fs34 : List Value, h26 x0 = some (.inr (4, fs34)) ∧ (wq_ci G l d C27 S28 mX5_look [.ref x0] h26 (fun y33 h30 C31 S32 => wq_gI h30 x0 [(4, 2)] (fun y36 => wq_pf G h30 x0 [(4, 2)] (.int (y36 + (1 : Int32))) (fun h37 => wq_no G h37 7 [.int 0, .int 0, .int 0, .null] 4 C31 S32 (fun a38 h39 => (y33 = (59 : Int32) → wq_cw G l d (C31 - 1) (S32 - 4) mX8_init [.ref a38, .int (4 : Int32), .int y7, .int y33, .ref (G.2.2.2.2 10)] h39 (fun h40 C41 S42 => K (some a38) h40)) ∧ (¬ y33 = (59 : Int32) → (y33 = (44 : Int32) → wq_cw G l d (C31 - 1) (S32 - 4) mX8_init [.ref a38, .int (4 : Int32), .int y7, .int y33, .ref (G.2.2.2.2 10)] h39 (fun h43 C44 S45 => K (some a38) h43)) ∧ (¬ y33 = (44 : Int32) → (¬ y33 = (45 : Int32) → wq_cw G l d (C31 - 1) (S32 - 4) mX8_init [.ref a38, .int (0 : Int32), .int y7, .int y33, .ref (G.2.2.2.2 10)] h39 (fun h46 C47 S48 => K (some a38) h46)) ∧ (y33 = (45 : Int32) → wq_cw G l d (C31 - 1) (S32 - 4) mX8_init [.ref a38, .int (4 : Int32), .int y7, .int y33, .ref (G.2.2.2.2 10)] h39 (fun h49 C50 S51 => K (some a38) h49)))))))))) ∧ (¬ y29 = 0 → wq_T G l d mX5_next (wq_qq K) 167 [some (.ref x0), some (.int y7), some (.int (0 : Int32))] [] h26 C27 S28))))) ∧ (¬ y19 = 0 → wq_no G h16 17 [.null, .int 0, .int 0, .int 0] 4 C17 S18 (fun a52 h53 => wq_cw G l d (C17 - 1) (S18 - 4) mJ4_init [.ref a52] h53 (fun h54 C55 S56 => wq_T G l d mX5_next (wq_qq K) 73 [some (.ref x0), some (.int y7), some (.ref a52)] [] h54 C55 S56))))))) ∧ (y8 = y9 → wq_no G h1 7 [.int 0, .int 0, .int 0, .null] 4 C2 S3 (fun a57 h58 => wq_cw G l d (C2 - 1) (S3 - 4) mX8_init [.ref a57, .int (1 : Int32), .int y7, .int (0 : Int32), .ref (G.2.2.2.2 10)] h58 (fun h59 C60 S61 => K (some a57) h59))))))) ∧ (y4 = (32 : Int32) → wq_gI h1 x0 [(4, 2)] (fun y62 => wq_pf G h1 x0 [(4, 2)] (.int (y62 + (1 : Int32))) (fun h63 => wq_T G l d mX5_next (wq_qq K) 0 [some (.ref x0), none, none] [] h63 C2 S3)))))) : wq_T G l d mX5_next (wq_qq K) 0 [some (.ref x0), none, none] [] h C S := by
  refine wq_aload_n (pc := 0) dX5_next_0 rfl rfl ?_
  obtain ⟨fs5, w6, V⟩ := V
  refine clq349 (pc := 1) (As := []) (st := []) rfl dX5_next_1 rfl (Nat.le_of_ble_eq_true rfl) w6 V (fun C2 S3 => wx_ki (fun y4 h1 V => ?_))
  refine wq_bipush (pc := 4) dX5_next_4 gstb32 ?_
  refine wq_icmp_ne (pc := 6) (tgt := 22) dX5_next_6 rfl (fun c => ?_) (fun c => ?_)
  · have V := V.1 c
    refine wq_aload_n (pc := 22) dX5_next_22 rfl rfl ?_
    refine gfq273 (pc := 23) rfl dX5_next_23 V (fun y7 V => ?_)
    refine wq_istore_n (L' := [some (.ref x0), some (.int y7), none]) (pc := 26) dX5_next_26 rfl (Nat.le_of_ble_eq_true rfl) rfl ?_
    refine wq_aload_n (pc := 27) dX5_next_27 rfl rfl ?_
    refine gfq273 (pc := 28) rfl dX5_next_28 V (fun y8 V => ?_)
    refine wq_aload_n (pc := 31) dX5_next_31 rfl rfl ?_
    refine gfq272 (pc := 32) rfl dX5_next_32 V (fun y9 V => ?_)
    refine wq_icmp_ne (pc := 35) (tgt := 51) dX5_next_35 rfl (fun c => ?_) (fun c => ?_)
    · have V := V.1 c
      refine wq_aload_n (pc := 51) dX5_next_51 rfl rfl ?_
      obtain ⟨fs14, w15, V⟩ := V
      refine clq349 (pc := 52) (As := []) (st := []) rfl dX5_next_52 rfl (Nat.le_of_ble_eq_true rfl) w15 V (fun C11 S12 => wx_ki (fun y13 h10 V => ?_))
      refine wq_bipush (pc := 55) dX5_next_55 gstb97 ?_
      refine wq_bipush (pc := 57) dX5_next_57 gstb122 ?_
      refine clq377 (pc := 59) (As := [.int y13, .int (97 : Int32), .int (122 : Int32)]) (st := []) rfl dX5_next_59 rfl (Nat.le_of_ble_eq_true rfl) V (fun C17 S18 => wx_ki (fun y19 h16 V => ?_))
      refine wq_if_eq (pc := 62) (tgt := 151) dX5_next_62 rfl (fun c => ?_) (fun c => ?_)
      · have V := V.1 c
        refine wq_aload_n (pc := 151) dX5_next_151 rfl rfl ?_
        obtain ⟨fs24, w25, V⟩ := V
        refine clq349 (pc := 152) (As := []) (st := []) rfl dX5_next_152 rfl (Nat.le_of_ble_eq_true rfl) w25 V (fun C21 S22 => wx_ki (fun y23 h20 V => ?_))
        refine wq_bipush (pc := 155) dX5_next_155 gstb48 ?_
        refine wq_bipush (pc := 157) dX5_next_157 gstb57 ?_
        refine clq377 (pc := 159) (As := [.int y23, .int (48 : Int32), .int (57 : Int32)]) (st := []) rfl dX5_next_159 rfl (Nat.le_of_ble_eq_true rfl) V (fun C27 S28 => wx_ki (fun y29 h26 V => ?_))
        refine wq_if_eq (pc := 162) (tgt := 244) dX5_next_162 rfl (fun c => ?_) (fun c => ?_)
        · have V := V.1 c
          refine wq_aload_n (pc := 244) dX5_next_244 rfl rfl ?_
          obtain ⟨fs34, w35, V⟩ := V
          refine clq349 (pc := 245) (As := []) (st := []) rfl dX5_next_245 rfl (Nat.le_of_ble_eq_true rfl) w35 V (fun C31 S32 => wx_ki (fun y33 h30 V => ?_))
          refine wq_istore_n (L' := [some (.ref x0), some (.int y7), some (.int y33)]) (pc := 248) dX5_next_248 rfl (Nat.le_of_ble_eq_true rfl) rfl ?_
          refine wq_aload_n (pc := 249) dX5_next_249 rfl rfl ?_
          refine wq_dup (pc := 250) dX5_next_250 rfl ?_
          refine gfq273 (pc := 251) rfl dX5_next_251 V (fun y36 V => ?_)
          refine wq_iconst (pc := 254) dX5_next_254 gsti1 ?_
          refine wq_iadd (pc := 255) dX5_next_255 ?_
          refine pfq273 (pc := 256) rfl dX5_next_256 ⟨rfl, rfl⟩ V (fun h37 V => ?_)
          refine nwq353 (pc := 259) rfl dX5_next_259 V (fun a38 h39 V => ?_)
          refine wq_dup (pc := 262) dX5_next_262 rfl ?_
          refine wq_iload_n (pc := 263) dX5_next_263 rfl rfl ?_
          refine wq_bipush (pc := 264) dX5_next_264 gstb59 ?_
          refine wq_icmp_eq (pc := 266) (tgt := 281) dX5_next_266 rfl (fun c => ?_) (fun c => ?_)
          · have V := V.1 c
            refine wq_iconst (pc := 281) dX5_next_281 gsti4 ?_
            refine wq_goto (pc := 282) (tgt := 286) dX5_next_282 rfl ?_
            refine wq_iload_n (pc := 286) dX5_next_286 rfl rfl ?_
            refine wq_iload_n (pc := 287) dX5_next_287 rfl rfl ?_
            refine wq_ldcS (a := G.2.2.2.2 10) (pc := 288) (gstr_X5_28 G) dX5_next_288 ?_
            refine clq356 (pc := 290) (As := [.int (4 : Int32), .int y7, .int y33, .ref (G.2.2.2.2 10)]) (st := [.ref a38]) rfl dX5_next_290 rfl (Nat.le_of_ble_eq_true rfl) V (fun C41 S42 => wx_kv (fun h40 V => ?_))
            refine wq_aret (r := (some a38)) (pc := 293) dX5_next_293 rfl rfl ⟨_, rfl, V⟩
          · have V := V.2 c
            refine wq_iload_n (pc := 269) dX5_next_269 rfl rfl ?_
            refine wq_bipush (pc := 270) dX5_next_270 gstb44 ?_
            refine wq_icmp_eq (pc := 272) (tgt := 281) dX5_next_272 rfl (fun c => ?_) (fun c => ?_)
            · have V := V.1 c
              refine wq_iconst (pc := 281) dX5_next_281 gsti4 ?_
              refine wq_goto (pc := 282) (tgt := 286) dX5_next_282 rfl ?_
              refine wq_iload_n (pc := 286) dX5_next_286 rfl rfl ?_
              refine wq_iload_n (pc := 287) dX5_next_287 rfl rfl ?_
              refine wq_ldcS (a := G.2.2.2.2 10) (pc := 288) (gstr_X5_28 G) dX5_next_288 ?_
              refine clq356 (pc := 290) (As := [.int (4 : Int32), .int y7, .int y33, .ref (G.2.2.2.2 10)]) (st := [.ref a38]) rfl dX5_next_290 rfl (Nat.le_of_ble_eq_true rfl) V (fun C44 S45 => wx_kv (fun h43 V => ?_))
              refine wq_aret (r := (some a38)) (pc := 293) dX5_next_293 rfl rfl ⟨_, rfl, V⟩
            · have V := V.2 c
              refine wq_iload_n (pc := 275) dX5_next_275 rfl rfl ?_
              refine wq_bipush (pc := 276) dX5_next_276 gstb45 ?_
              refine wq_icmp_ne (pc := 278) (tgt := 285) dX5_next_278 rfl (fun c => ?_) (fun c => ?_)
              · have V := V.1 c
                refine wq_iconst (pc := 285) dX5_next_285 gsti0 ?_
                refine wq_iload_n (pc := 286) dX5_next_286 rfl rfl ?_
                refine wq_iload_n (pc := 287) dX5_next_287 rfl rfl ?_
                refine wq_ldcS (a := G.2.2.2.2 10) (pc := 288) (gstr_X5_28 G) dX5_next_288 ?_
                refine clq356 (pc := 290) (As := [.int (0 : Int32), .int y7, .int y33, .ref (G.2.2.2.2 10)]) (st := [.ref a38]) rfl dX5_next_290 rfl (Nat.le_of_ble_eq_true rfl) V (fun C47 S48 => wx_kv (fun h46 V => ?_))
                refine wq_aret (r := (some a38)) (pc := 293) dX5_next_293 rfl rfl ⟨_, rfl, V⟩
              · have V := V.2 c
                refine wq_iconst (pc := 281) dX5_next_281 gsti4 ?_
                refine wq_goto (pc := 282) (tgt := 286) dX5_next_282 rfl ?_
                refine wq_iload_n (pc := 286) dX5_next_286 rfl rfl ?_
                refine wq_iload_n (pc := 287) dX5_next_287 rfl rfl ?_
                refine wq_ldcS (a := G.2.2.2.2 10) (pc := 288) (gstr_X5_28 G) dX5_next_288 ?_
                refine clq356 (pc := 290) (As := [.int (4 : Int32), .int y7, .int y33, .ref (G.2.2.2.2 10)]) (st := [.ref a38]) rfl dX5_next_290 rfl (Nat.le_of_ble_eq_true rfl) V (fun C50 S51 => wx_kv (fun h49 V => ?_))
                refine wq_aret (r := (some a38)) (pc := 293) dX5_next_293 rfl rfl ⟨_, rfl, V⟩
        · have V := V.2 c
          refine wq_iconst (pc := 165) dX5_next_165 gsti0 ?_
          refine wq_istore_n (L' := [some (.ref x0), some (.int y7), some (.int (0 : Int32))]) (pc := 166) dX5_next_166 rfl (Nat.le_of_ble_eq_true rfl) rfl ?_
          exact wq_T.less V ⟨rfl, ⟨rfl, ⟨rfl, trivial⟩⟩⟩
      · have V := V.2 c
        refine nwq378 (pc := 65) rfl dX5_next_65 V (fun a52 h53 V => ?_)
        refine wq_dup (pc := 68) dX5_next_68 rfl ?_
        refine clq380 (pc := 69) (As := []) (st := [.ref a52]) rfl dX5_next_69 rfl (Nat.le_of_ble_eq_true rfl) V (fun C55 S56 => wx_kv (fun h54 V => ?_))
        refine wq_astore_n (L' := [some (.ref x0), some (.int y7), some (.ref a52)]) (pc := 72) dX5_next_72 rfl (Nat.le_of_ble_eq_true rfl) rfl ?_
        exact wq_T.less V ⟨rfl, ⟨rfl, ⟨rfl, trivial⟩⟩⟩
    · have V := V.2 c
      refine nwq353 (pc := 38) rfl dX5_next_38 V (fun a57 h58 V => ?_)
      refine wq_dup (pc := 41) dX5_next_41 rfl ?_
      refine wq_iconst (pc := 42) dX5_next_42 gsti1 ?_
      refine wq_iload_n (pc := 43) dX5_next_43 rfl rfl ?_
      refine wq_iconst (pc := 44) dX5_next_44 gsti0 ?_
      refine wq_ldcS (a := G.2.2.2.2 10) (pc := 45) (gstr_X5_28 G) dX5_next_45 ?_
      refine clq356 (pc := 47) (As := [.int (1 : Int32), .int y7, .int (0 : Int32), .ref (G.2.2.2.2 10)]) (st := [.ref a57]) rfl dX5_next_47 rfl (Nat.le_of_ble_eq_true rfl) V (fun C60 S61 => wx_kv (fun h59 V => ?_))
      refine wq_aret (r := (some a57)) (pc := 50) dX5_next_50 rfl rfl ⟨_, rfl, V⟩
  · have V := V.2 c
    refine wq_aload_n (pc := 9) dX5_next_9 rfl rfl ?_
    refine wq_dup (pc := 10) dX5_next_10 rfl ?_
    refine gfq273 (pc := 11) rfl dX5_next_11 V (fun y62 V => ?_)
    refine wq_iconst (pc := 14) dX5_next_14 gsti1 ?_
    refine wq_iadd (pc := 15) dX5_next_15 ?_
    refine pfq273 (pc := 16) rfl dX5_next_16 ⟨rfl, rfl⟩ V (fun h63 V => ?_)
    refine wq_goto (pc := 19) (tgt := 0) dX5_next_19 rfl ?_
    exact wq_T.less V ⟨rfl, trivial⟩
theorem vX5_next_73 {G : wq_G} {l : Launch} {d C S : Nat} {K : Option Nat → wq_H → Prop} {x0 : Nat} {x1 : Int32} {x2 : Nat} {h : wq_H} (V : ∃ fs5 : List Value, h x0 = some (.inr (4, fs5)) ∧ (wq_ci G l d C S mX5_look [.ref x0] h (fun y4 h1 C2 S3 => wq_ci G l d C2 S3 mX1_in [.int y4, .int (97 : Int32), .int (122 : Int32)] h1 (fun y10 h7 C8 S9 => (y10 = 0 → wq_no G h7 7 [.int 0, .int 0, .int 0, .null] 4 C8 S9 (fun a11 h12 => wq_gI h12 x0 [(4, 2)] (fun y13 => ((y13 - x1) ≤ (8 : Int32) → ∃ fs18 : List Value, h12 x2 = some (.inr (17, fs18)) ∧ (wq_cq G l d (C8 - 1) (S9 - 4) mJ4_toString [.ref x2] h12 (fun r17 h14 C15 S16 => wq_cw G l d C15 S16 mX8_init [.ref a11, .int (2 : Int32), .int x1, .int (0 : Int32), va_rf r17] h14 (fun h20 C21 S22 => K (some a11) h20)))) ∧ (¬ (y13 - x1) ≤ (8 : Int32) → ∃ fs27 : List Value, h12 x2 = some (.inr (17, fs27)) ∧ (wq_cq G l d (C8 - 1) (S9 - 4) mJ4_toString [.ref x2] h12 (fun r26 h23 C24 S25 => wq_cw G l d C24 S25 mX8_init [.ref a11, .int (0 : Int32), .int x1, .int (0 : Int32), va_rf r26] h23 (fun h29 C30 S31 => K (some a11) h29))))))) ∧ (¬ y10 = 0 → wq_gI h7 x0 [(4, 2)] (fun y32 => ((8 : Int32) ≤ (y32 - x1) → wq_gI h7 x0 [(4, 2)] (fun y33 => wq_pf G h7 x0 [(4, 2)] (.int (y33 + (1 : Int32))) (fun h34 => wq_T G l d mX5_next (wq_qq K) 73 [some (.ref x0), some (.int x1), some (.ref x2)] [] h34 C8 S9))) ∧ (¬ (8 : Int32) ≤ (y32 - x1) → ∃ fs39 : List Value, h7 x0 = some (.inr (4, fs39)) ∧ (wq_ci G l d C8 S9 mX5_look [.ref x0] h7 (fun y38 h35 C36 S37 => ∃ fs45 : List Value, h35 x2 = some (.inr (17, fs45)) ∧ (wq_cq G l d C36 S37 mJ4_append [.ref x2, .int ((y38.toUInt32 % 65536).toInt32)] h35 (fun r44 h41 C42 S43 => wq_gI h41 x0 [(4, 2)] (fun y47 => wq_pf G h41 x0 [(4, 2)] (.int (y47 + (1 : Int32))) (fun h48 => wq_T G l d mX5_next (wq_qq K) 73 [some (.ref x0), some (.int x1), some (.ref x2)] [] h48 C42 S43))))))))))))) : wq_T G l d mX5_next (wq_qq K) 73 [some (.ref x0), some (.int x1), some (.ref x2)] [] h C S := by
  refine wq_aload_n (pc := 73) dX5_next_73 rfl rfl ?_
  obtain ⟨fs5, w6, V⟩ := V
  refine clq349 (pc := 74) (As := []) (st := []) rfl dX5_next_74 rfl (Nat.le_of_ble_eq_true rfl) w6 V (fun C2 S3 => wx_ki (fun y4 h1 V => ?_))
  refine wq_bipush (pc := 77) dX5_next_77 gstb97 ?_
  refine wq_bipush (pc := 79) dX5_next_79 gstb122 ?_
  refine clq377 (pc := 81) (As := [.int y4, .int (97 : Int32), .int (122 : Int32)]) (st := []) rfl dX5_next_81 rfl (Nat.le_of_ble_eq_true rfl) V (fun C8 S9 => wx_ki (fun y10 h7 V => ?_))
  refine wq_if_eq (pc := 84) (tgt := 121) dX5_next_84 rfl (fun c => ?_) (fun c => ?_)
  · have V := V.1 c
    refine nwq353 (pc := 121) rfl dX5_next_121 V (fun a11 h12 V => ?_)
    refine wq_dup (pc := 124) dX5_next_124 rfl ?_
    refine wq_aload_n (pc := 125) dX5_next_125 rfl rfl ?_
    refine gfq273 (pc := 126) rfl dX5_next_126 V (fun y13 V => ?_)
    refine wq_iload_n (pc := 129) dX5_next_129 rfl rfl ?_
    refine wq_isub (pc := 130) dX5_next_130 ?_
    refine wq_bipush (pc := 131) dX5_next_131 gstb8 ?_
    refine wq_icmp_le (pc := 133) (tgt := 140) dX5_next_133 rfl (fun c => ?_) (fun c => ?_)
    · have V := V.1 c
      refine wq_iconst (pc := 140) dX5_next_140 gsti2 ?_
      refine wq_iload_n (pc := 141) dX5_next_141 rfl rfl ?_
      refine wq_iconst (pc := 142) dX5_next_142 gsti0 ?_
      refine wq_aload_n (pc := 143) dX5_next_143 rfl rfl ?_
      obtain ⟨fs18, w19, V⟩ := V
      refine clq504 (pc := 144) (As := []) (st := [.int (0 : Int32), .int x1, .int (2 : Int32), .ref a11, .ref a11]) rfl dX5_next_144 rfl (Nat.le_of_ble_eq_true rfl) w19 V (fun C15 S16 => wx_kq (fun r17 h14 V => ?_))
      refine clq356 (pc := 147) (As := [.int (2 : Int32), .int x1, .int (0 : Int32), va_rf r17]) (st := [.ref a11]) rfl dX5_next_147 rfl (Nat.le_of_ble_eq_true rfl) V (fun C21 S22 => wx_kv (fun h20 V => ?_))
      refine wq_aret (r := (some a11)) (pc := 150) dX5_next_150 rfl rfl ⟨_, rfl, V⟩
    · have V := V.2 c
      refine wq_iconst (pc := 136) dX5_next_136 gsti0 ?_
      refine wq_goto (pc := 137) (tgt := 141) dX5_next_137 rfl ?_
      refine wq_iload_n (pc := 141) dX5_next_141 rfl rfl ?_
      refine wq_iconst (pc := 142) dX5_next_142 gsti0 ?_
      refine wq_aload_n (pc := 143) dX5_next_143 rfl rfl ?_
      obtain ⟨fs27, w28, V⟩ := V
      refine clq504 (pc := 144) (As := []) (st := [.int (0 : Int32), .int x1, .int (0 : Int32), .ref a11, .ref a11]) rfl dX5_next_144 rfl (Nat.le_of_ble_eq_true rfl) w28 V (fun C24 S25 => wx_kq (fun r26 h23 V => ?_))
      refine clq356 (pc := 147) (As := [.int (0 : Int32), .int x1, .int (0 : Int32), va_rf r26]) (st := [.ref a11]) rfl dX5_next_147 rfl (Nat.le_of_ble_eq_true rfl) V (fun C30 S31 => wx_kv (fun h29 V => ?_))
      refine wq_aret (r := (some a11)) (pc := 150) dX5_next_150 rfl rfl ⟨_, rfl, V⟩
  · have V := V.2 c
    refine wq_aload_n (pc := 87) dX5_next_87 rfl rfl ?_
    refine gfq273 (pc := 88) rfl dX5_next_88 V (fun y32 V => ?_)
    refine wq_iload_n (pc := 91) dX5_next_91 rfl rfl ?_
    refine wq_isub (pc := 92) dX5_next_92 ?_
    refine wq_bipush (pc := 93) dX5_next_93 gstb8 ?_
    refine wq_icmp_ge (pc := 95) (tgt := 108) dX5_next_95 rfl (fun c => ?_) (fun c => ?_)
    · have V := V.1 c
      refine wq_aload_n (pc := 108) dX5_next_108 rfl rfl ?_
      refine wq_dup (pc := 109) dX5_next_109 rfl ?_
      refine gfq273 (pc := 110) rfl dX5_next_110 V (fun y33 V => ?_)
      refine wq_iconst (pc := 113) dX5_next_113 gsti1 ?_
      refine wq_iadd (pc := 114) dX5_next_114 ?_
      refine pfq273 (pc := 115) rfl dX5_next_115 ⟨rfl, rfl⟩ V (fun h34 V => ?_)
      refine wq_goto (pc := 118) (tgt := 73) dX5_next_118 rfl ?_
      exact wq_T.less V ⟨rfl, ⟨rfl, ⟨rfl, trivial⟩⟩⟩
    · have V := V.2 c
      refine wq_aload_n (pc := 98) dX5_next_98 rfl rfl ?_
      refine wq_aload_n (pc := 99) dX5_next_99 rfl rfl ?_
      obtain ⟨fs39, w40, V⟩ := V
      refine clq349 (pc := 100) (As := []) (st := [.ref x2]) rfl dX5_next_100 rfl (Nat.le_of_ble_eq_true rfl) w40 V (fun C36 S37 => wx_ki (fun y38 h35 V => ?_))
      refine wq_i2c (pc := 103) dX5_next_103 ?_
      obtain ⟨fs45, w46, V⟩ := V
      refine clq409 (pc := 104) (As := [.int ((y38.toUInt32 % 65536).toInt32)]) (st := []) rfl dX5_next_104 rfl (Nat.le_of_ble_eq_true rfl) w46 V (fun C42 S43 => wx_kq (fun r44 h41 V => ?_))
      refine wq_pop (pc := 107) dX5_next_107 (wq_cat1 _) ?_
      refine wq_aload_n (pc := 108) dX5_next_108 rfl rfl ?_
      refine wq_dup (pc := 109) dX5_next_109 rfl ?_
      refine gfq273 (pc := 110) rfl dX5_next_110 V (fun y47 V => ?_)
      refine wq_iconst (pc := 113) dX5_next_113 gsti1 ?_
      refine wq_iadd (pc := 114) dX5_next_114 ?_
      refine pfq273 (pc := 115) rfl dX5_next_115 ⟨rfl, rfl⟩ V (fun h48 V => ?_)
      refine wq_goto (pc := 118) (tgt := 73) dX5_next_118 rfl ?_
      exact wq_T.less V ⟨rfl, ⟨rfl, ⟨rfl, trivial⟩⟩⟩
theorem vX5_next_167 {G : wq_G} {l : Launch} {d C S : Nat} {K : Option Nat → wq_H → Prop} {x0 : Nat} {x1 : Int32} {x2 : Int32} {h : wq_H} (V : ∃ fs5 : List Value, h x0 = some (.inr (4, fs5)) ∧ (wq_ci G l d C S mX5_look [.ref x0] h (fun y4 h1 C2 S3 => wq_ci G l d C2 S3 mX1_in [.int y4, .int (48 : Int32), .int (57 : Int32)] h1 (fun y10 h7 C8 S9 => (y10 = 0 → wq_no G h7 7 [.int 0, .int 0, .int 0, .null] 4 C8 S9 (fun a11 h12 => wq_gI h12 x0 [(4, 2)] (fun y13 => ((y13 - x1) ≤ (3 : Int32) → wq_cw G l d (C8 - 1) (S9 - 4) mX8_init [.ref a11, .int (3 : Int32), .int x1, .int x2, .ref (G.2.2.2.2 10)] h12 (fun h14 C15 S16 => K (some a11) h14)) ∧ (¬ (y13 - x1) ≤ (3 : Int32) → wq_cw G l d (C8 - 1) (S9 - 4) mX8_init [.ref a11, .int (0 : Int32), .int x1, .int x2, .ref (G.2.2.2.2 10)] h12 (fun h17 C18 S19 => K (some a11) h17))))) ∧ (¬ y10 = 0 → wq_gI h7 x0 [(4, 2)] (fun y20 => ((3 : Int32) ≤ (y20 - x1) → wq_gI h7 x0 [(4, 2)] (fun y21 => wq_pf G h7 x0 [(4, 2)] (.int (y21 + (1 : Int32))) (fun h22 => wq_T G l d mX5_next (wq_qq K) 167 [some (.ref x0), some (.int x1), some (.int x2)] [] h22 C8 S9))) ∧ (¬ (3 : Int32) ≤ (y20 - x1) → ∃ fs27 : List Value, h7 x0 = some (.inr (4, fs27)) ∧ (wq_ci G l d C8 S9 mX5_look [.ref x0] h7 (fun y26 h23 C24 S25 => wq_gI h23 x0 [(4, 2)] (fun y29 => wq_pf G h23 x0 [(4, 2)] (.int (y29 + (1 : Int32))) (fun h30 => wq_T G l d mX5_next (wq_qq K) 167 [some (.ref x0), some (.int x1), some (.int ((((10 : Int32) * x2) + y26) - (48 : Int32)))] [] h30 C24 S25))))))))))) : wq_T G l d mX5_next (wq_qq K) 167 [some (.ref x0), some (.int x1), some (.int x2)] [] h C S := by
  refine wq_aload_n (pc := 167) dX5_next_167 rfl rfl ?_
  obtain ⟨fs5, w6, V⟩ := V
  refine clq349 (pc := 168) (As := []) (st := []) rfl dX5_next_168 rfl (Nat.le_of_ble_eq_true rfl) w6 V (fun C2 S3 => wx_ki (fun y4 h1 V => ?_))
  refine wq_bipush (pc := 171) dX5_next_171 gstb48 ?_
  refine wq_bipush (pc := 173) dX5_next_173 gstb57 ?_
  refine clq377 (pc := 175) (As := [.int y4, .int (48 : Int32), .int (57 : Int32)]) (st := []) rfl dX5_next_175 rfl (Nat.le_of_ble_eq_true rfl) V (fun C8 S9 => wx_ki (fun y10 h7 V => ?_))
  refine wq_if_eq (pc := 178) (tgt := 217) dX5_next_178 rfl (fun c => ?_) (fun c => ?_)
  · have V := V.1 c
    refine nwq353 (pc := 217) rfl dX5_next_217 V (fun a11 h12 V => ?_)
    refine wq_dup (pc := 220) dX5_next_220 rfl ?_
    refine wq_aload_n (pc := 221) dX5_next_221 rfl rfl ?_
    refine gfq273 (pc := 222) rfl dX5_next_222 V (fun y13 V => ?_)
    refine wq_iload_n (pc := 225) dX5_next_225 rfl rfl ?_
    refine wq_isub (pc := 226) dX5_next_226 ?_
    refine wq_iconst (pc := 227) dX5_next_227 gsti3 ?_
    refine wq_icmp_le (pc := 228) (tgt := 235) dX5_next_228 rfl (fun c => ?_) (fun c => ?_)
    · have V := V.1 c
      refine wq_iconst (pc := 235) dX5_next_235 gsti3 ?_
      refine wq_iload_n (pc := 236) dX5_next_236 rfl rfl ?_
      refine wq_iload_n (pc := 237) dX5_next_237 rfl rfl ?_
      refine wq_ldcS (a := G.2.2.2.2 10) (pc := 238) (gstr_X5_28 G) dX5_next_238 ?_
      refine clq356 (pc := 240) (As := [.int (3 : Int32), .int x1, .int x2, .ref (G.2.2.2.2 10)]) (st := [.ref a11]) rfl dX5_next_240 rfl (Nat.le_of_ble_eq_true rfl) V (fun C15 S16 => wx_kv (fun h14 V => ?_))
      refine wq_aret (r := (some a11)) (pc := 243) dX5_next_243 rfl rfl ⟨_, rfl, V⟩
    · have V := V.2 c
      refine wq_iconst (pc := 231) dX5_next_231 gsti0 ?_
      refine wq_goto (pc := 232) (tgt := 236) dX5_next_232 rfl ?_
      refine wq_iload_n (pc := 236) dX5_next_236 rfl rfl ?_
      refine wq_iload_n (pc := 237) dX5_next_237 rfl rfl ?_
      refine wq_ldcS (a := G.2.2.2.2 10) (pc := 238) (gstr_X5_28 G) dX5_next_238 ?_
      refine clq356 (pc := 240) (As := [.int (0 : Int32), .int x1, .int x2, .ref (G.2.2.2.2 10)]) (st := [.ref a11]) rfl dX5_next_240 rfl (Nat.le_of_ble_eq_true rfl) V (fun C18 S19 => wx_kv (fun h17 V => ?_))
      refine wq_aret (r := (some a11)) (pc := 243) dX5_next_243 rfl rfl ⟨_, rfl, V⟩
  · have V := V.2 c
    refine wq_aload_n (pc := 181) dX5_next_181 rfl rfl ?_
    refine gfq273 (pc := 182) rfl dX5_next_182 V (fun y20 V => ?_)
    refine wq_iload_n (pc := 185) dX5_next_185 rfl rfl ?_
    refine wq_isub (pc := 186) dX5_next_186 ?_
    refine wq_iconst (pc := 187) dX5_next_187 gsti3 ?_
    refine wq_icmp_ge (pc := 188) (tgt := 204) dX5_next_188 rfl (fun c => ?_) (fun c => ?_)
    · have V := V.1 c
      refine wq_aload_n (pc := 204) dX5_next_204 rfl rfl ?_
      refine wq_dup (pc := 205) dX5_next_205 rfl ?_
      refine gfq273 (pc := 206) rfl dX5_next_206 V (fun y21 V => ?_)
      refine wq_iconst (pc := 209) dX5_next_209 gsti1 ?_
      refine wq_iadd (pc := 210) dX5_next_210 ?_
      refine pfq273 (pc := 211) rfl dX5_next_211 ⟨rfl, rfl⟩ V (fun h22 V => ?_)
      refine wq_goto (pc := 214) (tgt := 167) dX5_next_214 rfl ?_
      exact wq_T.less V ⟨rfl, ⟨rfl, ⟨rfl, trivial⟩⟩⟩
    · have V := V.2 c
      refine wq_bipush (pc := 191) dX5_next_191 gstb10 ?_
      refine wq_iload_n (pc := 193) dX5_next_193 rfl rfl ?_
      refine wq_imul (pc := 194) dX5_next_194 ?_
      refine wq_aload_n (pc := 195) dX5_next_195 rfl rfl ?_
      obtain ⟨fs27, w28, V⟩ := V
      refine clq349 (pc := 196) (As := []) (st := [.int ((10 : Int32) * x2)]) rfl dX5_next_196 rfl (Nat.le_of_ble_eq_true rfl) w28 V (fun C24 S25 => wx_ki (fun y26 h23 V => ?_))
      refine wq_iadd (pc := 199) dX5_next_199 ?_
      refine wq_bipush (pc := 200) dX5_next_200 gstb48 ?_
      refine wq_isub (pc := 202) dX5_next_202 ?_
      refine wq_istore_n (L' := [some (.ref x0), some (.int x1), some (.int ((((10 : Int32) * x2) + y26) - (48 : Int32)))]) (pc := 203) dX5_next_203 rfl (Nat.le_of_ble_eq_true rfl) rfl ?_
      refine wq_aload_n (pc := 204) dX5_next_204 rfl rfl ?_
      refine wq_dup (pc := 205) dX5_next_205 rfl ?_
      refine gfq273 (pc := 206) rfl dX5_next_206 V (fun y29 V => ?_)
      refine wq_iconst (pc := 209) dX5_next_209 gsti1 ?_
      refine wq_iadd (pc := 210) dX5_next_210 ?_
      refine pfq273 (pc := 211) rfl dX5_next_211 ⟨rfl, rfl⟩ V (fun h30 V => ?_)
      refine wq_goto (pc := 214) (tgt := 167) dX5_next_214 rfl ?_
      exact wq_T.less V ⟨rfl, ⟨rfl, ⟨rfl, trivial⟩⟩⟩
theorem vX5_look_0 {G : wq_G} {l : Launch} {d C S : Nat} {K : Int32 → wq_H → Prop} {x0 : Nat} {h : wq_H} (V : wq_gI h x0 [(4, 2)] (fun y1 => wq_gI h x0 [(4, 1)] (fun y2 => (y2 ≤ y1 → K (-1 : Int32) h) ∧ (¬ y2 ≤ y1 → wq_gR h x0 [(4, 0)] (fun a3 => wq_gI h x0 [(4, 2)] (fun y4 => wq_ab G h a3 y4 (fun y5 => K (y5 &&& (255 : Int32)) h))))))) : wq_T G l d mX5_look (wq_qi K) 0 [some (.ref x0)] [] h C S := by
  refine wq_aload_n (pc := 0) dX5_look_0 rfl rfl ?_
  refine gfq273 (pc := 1) rfl dX5_look_1 V (fun y1 V => ?_)
  refine wq_aload_n (pc := 4) dX5_look_4 rfl rfl ?_
  refine gfq272 (pc := 5) rfl dX5_look_5 V (fun y2 V => ?_)
  refine wq_icmp_ge (pc := 8) (tgt := 27) dX5_look_8 rfl (fun c => ?_) (fun c => ?_)
  · have V := V.1 c
    refine wq_iconst (pc := 27) dX5_look_27 gstim1 ?_
    refine wq_iret (pc := 28) dX5_look_28 rfl ⟨_, rfl, V⟩
  · have V := V.2 c
    refine wq_aload_n (pc := 11) dX5_look_11 rfl rfl ?_
    refine gfq271 (pc := 12) rfl dX5_look_12 V (fun a3 V => ?_)
    refine wq_aload_n (pc := 15) dX5_look_15 rfl rfl ?_
    refine gfq273 (pc := 16) rfl dX5_look_16 V (fun y4 V => ?_)
    refine wx_ab (pc := 19) dX5_look_19 V (fun y5 V => ?_)
    refine wq_sipush (pc := 20) dX5_look_20 gsts255 ?_
    refine wq_iand (pc := 23) dX5_look_23 ?_
    refine wq_goto (pc := 24) (tgt := 28) dX5_look_24 rfl ?_
    refine wq_iret (pc := 28) dX5_look_28 rfl ⟨_, rfl, V⟩
theorem vX6_init_0 {G : wq_G} {l : Launch} {d C S : Nat} {K : wq_H → Prop} (hd1 : 1 ≤ d) {x0 : Nat} {h : wq_H} (V : wq_no G h 6 [.null] 1 C S (fun a1 h2 => wq_cw G l d (C - 1) (S - 1) mX7_init [.ref a1] h2 (fun h3 C4 S5 => wq_pf G h3 x0 [(5, 3)] (.ref a1) (fun h6 => wq_no G h6 16 [.int 0, .null, .int 0] 3 C4 S5 (fun a7 h8 => wq_cw G l d (C4 - 1) (S5 - 3) mJ2_init [.ref a7] h8 (fun h9 C10 S11 => wq_pf G h9 x0 [(5, 4)] (.ref a7) (fun h12 => wq_no G h12 16 [.int 0, .null, .int 0] 3 C10 S11 (fun a13 h14 => wq_cw G l d (C10 - 1) (S11 - 3) mJ2_init [.ref a13] h14 (fun h15 C16 S17 => wq_pf G h15 x0 [(5, 5)] (.ref a13) (fun h18 => wq_no G h18 16 [.int 0, .null, .int 0] 3 C16 S17 (fun a19 h20 => wq_cw G l d (C16 - 1) (S17 - 3) mJ2_init [.ref a19] h20 (fun h21 C22 S23 => wq_pf G h21 x0 [(5, 6)] (.ref a19) (fun h24 => K h24))))))))))))) : wq_T G l d mX6_init (wq_qv K) 0 [some (.ref x0)] [] h C S := by
  refine wq_aload_n (pc := 0) dX6_init_0 rfl rfl ?_
  refine wq_objInit (pc := 1) q290 q157 q158 dX6_init_1 (Nat.le_of_ble_eq_true rfl) hd1 ?_
  refine wq_aload_n (pc := 4) dX6_init_4 rfl rfl ?_
  refine nwq291 (pc := 5) rfl dX6_init_5 V (fun a1 h2 V => ?_)
  refine wq_dup (pc := 8) dX6_init_8 rfl ?_
  refine clq293 (pc := 9) (As := []) (st := [.ref a1, .ref x0]) rfl dX6_init_9 rfl (Nat.le_of_ble_eq_true rfl) V (fun C4 S5 => wx_kv (fun h3 V => ?_))
  refine pfq315 (pc := 12) rfl rfl dX6_init_12 (wq_nfr rfl (some a1)) V (fun h6 V => ?_)
  refine wq_aload_n (pc := 15) dX6_init_15 rfl rfl ?_
  refine nwq305 (pc := 16) rfl dX6_init_16 V (fun a7 h8 V => ?_)
  refine wq_dup (pc := 19) dX6_init_19 rfl ?_
  refine clq306 (pc := 20) (As := []) (st := [.ref a7, .ref x0]) rfl dX6_init_20 rfl (Nat.le_of_ble_eq_true rfl) V (fun C10 S11 => wx_kv (fun h9 V => ?_))
  refine pfq318 (pc := 23) rfl rfl dX6_init_23 (wq_nfr rfl (some a7)) V (fun h12 V => ?_)
  refine wq_aload_n (pc := 26) dX6_init_26 rfl rfl ?_
  refine nwq305 (pc := 27) rfl dX6_init_27 V (fun a13 h14 V => ?_)
  refine wq_dup (pc := 30) dX6_init_30 rfl ?_
  refine clq306 (pc := 31) (As := []) (st := [.ref a13, .ref x0]) rfl dX6_init_31 rfl (Nat.le_of_ble_eq_true rfl) V (fun C16 S17 => wx_kv (fun h15 V => ?_))
  refine pfq322 (pc := 34) rfl rfl dX6_init_34 (wq_nfr rfl (some a13)) V (fun h18 V => ?_)
  refine wq_aload_n (pc := 37) dX6_init_37 rfl rfl ?_
  refine nwq305 (pc := 38) rfl dX6_init_38 V (fun a19 h20 V => ?_)
  refine wq_dup (pc := 41) dX6_init_41 rfl ?_
  refine clq306 (pc := 42) (As := []) (st := [.ref a19, .ref x0]) rfl dX6_init_42 rfl (Nat.le_of_ble_eq_true rfl) V (fun C22 S23 => wx_kv (fun h21 V => ?_))
  refine pfq325 (pc := 45) rfl rfl dX6_init_45 (wq_nfr rfl (some a19)) V (fun h24 V => ?_)
  refine wq_vret (pc := 48) dX6_init_48 rfl ⟨rfl, V⟩
theorem vX6_hiddens_0 {G : wq_G} {l : Launch} {d C S : Nat} {K : Int32 → wq_H → Prop} {x0 : Nat} {h : wq_H} (V : wq_gI h x0 [(5, 1)] (fun y1 => K ((1 : Int32) <<< (y1 &&& 31)) h)) : wq_T G l d mX6_hiddens (wq_qi K) 0 [some (.ref x0)] [] h C S := by
  refine wq_iconst (pc := 0) dX6_hiddens_0 gsti1 ?_
  refine wq_aload_n (pc := 1) dX6_hiddens_1 rfl rfl ?_
  refine gfq309 (pc := 2) rfl dX6_hiddens_2 V (fun y1 V => ?_)
  refine wq_ishl (pc := 5) dX6_hiddens_5 ?_
  refine wq_iret (pc := 6) dX6_hiddens_6 rfl ⟨_, rfl, V⟩
theorem vX6_can_0 {G : wq_G} {l : Launch} {d C S : Nat} {K : Int32 → wq_H → Prop} {x0 : Nat} {x1 : Int32} {x2 : Int32} {h : wq_H} (V : wq_T G l d mX6_can (wq_qi K) 2 [some (.ref x0), some (.int x1), some (.int x2), some (.int (0 : Int32))] [] h C S) : wq_T G l d mX6_can (wq_qi K) 0 [some (.ref x0), some (.int x1), some (.int x2), none] [] h C S := by
  refine wq_iconst (pc := 0) dX6_can_0 gsti0 ?_
  refine wq_istore_n (L' := [some (.ref x0), some (.int x1), some (.int x2), some (.int (0 : Int32))]) (pc := 1) dX6_can_1 rfl (Nat.le_of_ble_eq_true rfl) rfl ?_
  exact wq_T.less V ⟨rfl, ⟨rfl, ⟨rfl, ⟨rfl, trivial⟩⟩⟩⟩
theorem vX6_can_2 {G : wq_G} {l : Launch} {d C S : Nat} {K : Int32 → wq_H → Prop} {x0 : Nat} {x1 : Int32} {x2 : Int32} {x3 : Int32} {h : wq_H} (V : wq_gR h x0 [(5, 4)] (fun a1 => ∃ fs6 : List Value, h a1 = some (.inr (16, fs6)) ∧ (wq_ci G l d C S mJ2_size [.ref a1] h (fun y5 h2 C3 S4 => (y5 ≤ x3 → K (1 : Int32) h2) ∧ (¬ y5 ≤ x3 → wq_ci G l d C3 S4 mX1_has [.int x1, .int x3] h2 (fun y11 h8 C9 S10 => (y11 = 0 → wq_T G l d mX6_can (wq_qi K) 2 [some (.ref x0), some (.int x1), some (.int x2), some (.int (x3 + (1 : Int32)))] [] h8 C9 S10) ∧ (¬ y11 = 0 → wq_gR h8 x0 [(5, 4)] (fun a12 => ∃ fs17 : List Value, h8 a12 = some (.inr (16, fs17)) ∧ (wq_cq G l d C9 S10 mJ2_get [.ref a12, .int x3] h8 (fun r16 h13 C14 S15 => wq_ct h13 r16 [10] (fun a19 => ∃ fs24 : List Value, h13 a19 = some (.inr (10, fs24)) ∧ (wq_ci G l d C14 S15 mX12_isSo [.ref a19, .int x2] h13 (fun y23 h20 C21 S22 => (¬ y23 = 0 → wq_T G l d mX6_can (wq_qi K) 2 [some (.ref x0), some (.int x1), some (.int x2), some (.int (x3 + (1 : Int32)))] [] h20 C21 S22) ∧ (y23 = 0 → K (0 : Int32) h20)))))))))))))) : wq_T G l d mX6_can (wq_qi K) 2 [some (.ref x0), some (.int x1), some (.int x2), some (.int x3)] [] h C S := by
  refine wq_iload_n (pc := 2) dX6_can_2 rfl rfl ?_
  refine wq_aload_n (pc := 3) dX6_can_3 rfl rfl ?_
  refine gfq318 (pc := 4) rfl dX6_can_4 V (fun a1 V => ?_)
  obtain ⟨fs6, w7, V⟩ := V
  refine clq1288 (pc := 7) (As := []) (st := [.int x3]) rfl dX6_can_7 rfl (Nat.le_of_ble_eq_true rfl) w7 V (fun C3 S4 => wx_ki (fun y5 h2 V => ?_))
  refine wq_icmp_ge (pc := 10) (tgt := 47) dX6_can_10 rfl (fun c => ?_) (fun c => ?_)
  · have V := V.1 c
    refine wq_iconst (pc := 47) dX6_can_47 gsti1 ?_
    refine wq_zret (pc := 48) dX6_can_48 rfl gn_b1 ⟨_, rfl, V⟩
  · have V := V.2 c
    refine wq_iload_n (pc := 13) dX6_can_13 rfl rfl ?_
    refine wq_iload_n (pc := 14) dX6_can_14 rfl rfl ?_
    refine clq1289 (pc := 15) (As := [.int x1, .int x3]) (st := []) rfl dX6_can_15 rfl (Nat.le_of_ble_eq_true rfl) V (fun C9 S10 => wx_ki (fun y11 h8 V => ?_))
    refine wq_if_eq (pc := 18) (tgt := 41) dX6_can_18 rfl (fun c => ?_) (fun c => ?_)
    · have V := V.1 c
      refine wq_iinc (L' := [some (.ref x0), some (.int x1), some (.int x2), some (.int (x3 + (1 : Int32)))]) (pc := 41) dX6_can_41 rfl (by rw [gsti1]) (Nat.le_of_ble_eq_true rfl) rfl ?_
      refine wq_goto (pc := 44) (tgt := 2) dX6_can_44 rfl ?_
      exact wq_T.less V ⟨rfl, ⟨rfl, ⟨rfl, ⟨rfl, trivial⟩⟩⟩⟩
    · have V := V.2 c
      refine wq_aload_n (pc := 21) dX6_can_21 rfl rfl ?_
      refine gfq318 (pc := 22) rfl dX6_can_22 V (fun a12 V => ?_)
      refine wq_iload_n (pc := 25) dX6_can_25 rfl rfl ?_
      obtain ⟨fs17, w18, V⟩ := V
      refine clq1290 (pc := 26) (As := [.int x3]) (st := []) rfl dX6_can_26 rfl (Nat.le_of_ble_eq_true rfl) w18 V (fun C14 S15 => wx_kq (fun r16 h13 V => ?_))
      refine ctq1291 (r := r16) (pc := 29) rfl dX6_can_29 V (fun a19 V => ?_)
      refine wq_iload_n (pc := 32) dX6_can_32 rfl rfl ?_
      obtain ⟨fs24, w25, V⟩ := V
      refine clq1292 (pc := 33) (As := [.int x2]) (st := []) rfl dX6_can_33 rfl (Nat.le_of_ble_eq_true rfl) w25 V (fun C21 S22 => wx_ki (fun y23 h20 V => ?_))
      refine wq_if_ne (pc := 36) (tgt := 41) dX6_can_36 rfl (fun c => ?_) (fun c => ?_)
      · have V := V.1 c
        refine wq_iinc (L' := [some (.ref x0), some (.int x1), some (.int x2), some (.int (x3 + (1 : Int32)))]) (pc := 41) dX6_can_41 rfl (by rw [gsti1]) (Nat.le_of_ble_eq_true rfl) rfl ?_
        refine wq_goto (pc := 44) (tgt := 2) dX6_can_44 rfl ?_
        exact wq_T.less V ⟨rfl, ⟨rfl, ⟨rfl, ⟨rfl, trivial⟩⟩⟩⟩
      · have V := V.2 c
        refine wq_iconst (pc := 39) dX6_can_39 gsti0 ?_
        refine wq_zret (pc := 40) dX6_can_40 rfl gn_b0 ⟨_, rfl, V⟩
theorem vX6_can_2_0 {G : wq_G} {l : Launch} {d C S : Nat} {K : Int32 → wq_H → Prop} {x0 : Nat} {x1 : Int32} {h : wq_H} (V : wq_T G l d mX6_can_2 (wq_qi K) 2 [some (.ref x0), some (.int x1), some (.int (0 : Int32))] [] h C S) : wq_T G l d mX6_can_2 (wq_qi K) 0 [some (.ref x0), some (.int x1), none] [] h C S := by
  refine wq_iconst (pc := 0) dX6_can_2_0 gsti0 ?_
  refine wq_istore_n (L' := [some (.ref x0), some (.int x1), some (.int (0 : Int32))]) (pc := 1) dX6_can_2_1 rfl (Nat.le_of_ble_eq_true rfl) rfl ?_
  exact wq_T.less V ⟨rfl, ⟨rfl, ⟨rfl, trivial⟩⟩⟩
theorem vX6_can_2_2 {G : wq_G} {l : Launch} {d C S : Nat} {K : Int32 → wq_H → Prop} {x0 : Nat} {x1 : Int32} {x2 : Int32} {h : wq_H} (V : wq_gI h x0 [(5, 2)] (fun y1 => (((1 : Int32) <<< (y1 &&& 31)) ≤ x2 → K (0 : Int32) h) ∧ (¬ ((1 : Int32) <<< (y1 &&& 31)) ≤ x2 → ∃ fs6 : List Value, h x0 = some (.inr (5, fs6)) ∧ (wq_ci G l d C S mX6_can [.ref x0, .int x1, .int x2] h (fun y5 h2 C3 S4 => (y5 = 0 → wq_T G l d mX6_can_2 (wq_qi K) 2 [some (.ref x0), some (.int x1), some (.int (x2 + (1 : Int32)))] [] h2 C3 S4) ∧ (¬ y5 = 0 → K (1 : Int32) h2)))))) : wq_T G l d mX6_can_2 (wq_qi K) 2 [some (.ref x0), some (.int x1), some (.int x2)] [] h C S := by
  refine wq_iload_n (pc := 2) dX6_can_2_2 rfl rfl ?_
  refine wq_iconst (pc := 3) dX6_can_2_3 gsti1 ?_
  refine wq_aload_n (pc := 4) dX6_can_2_4 rfl rfl ?_
  refine gfq312 (pc := 5) rfl dX6_can_2_5 V (fun y1 V => ?_)
  refine wq_ishl (pc := 8) dX6_can_2_8 ?_
  refine wq_icmp_ge (pc := 9) (tgt := 29) dX6_can_2_9 rfl (fun c => ?_) (fun c => ?_)
  · have V := V.1 c
    refine wq_iconst (pc := 29) dX6_can_2_29 gsti0 ?_
    refine wq_zret (pc := 30) dX6_can_2_30 rfl gn_b0 ⟨_, rfl, V⟩
  · have V := V.2 c
    refine wq_aload_n (pc := 12) dX6_can_2_12 rfl rfl ?_
    refine wq_iload_n (pc := 13) dX6_can_2_13 rfl rfl ?_
    refine wq_iload_n (pc := 14) dX6_can_2_14 rfl rfl ?_
    obtain ⟨fs6, w7, V⟩ := V
    refine clq1311 (pc := 15) (As := [.int x1, .int x2]) (st := []) rfl dX6_can_2_15 rfl (Nat.le_of_ble_eq_true rfl) w7 V (fun C3 S4 => wx_ki (fun y5 h2 V => ?_))
    refine wq_if_eq (pc := 18) (tgt := 23) dX6_can_2_18 rfl (fun c => ?_) (fun c => ?_)
    · have V := V.1 c
      refine wq_iinc (L' := [some (.ref x0), some (.int x1), some (.int (x2 + (1 : Int32)))]) (pc := 23) dX6_can_2_23 rfl (by rw [gsti1]) (Nat.le_of_ble_eq_true rfl) rfl ?_
      refine wq_goto (pc := 26) (tgt := 2) dX6_can_2_26 rfl ?_
      exact wq_T.less V ⟨rfl, ⟨rfl, ⟨rfl, trivial⟩⟩⟩
    · have V := V.2 c
      refine wq_iconst (pc := 21) dX6_can_2_21 gsti1 ?_
      refine wq_zret (pc := 22) dX6_can_2_22 rfl gn_b1 ⟨_, rfl, V⟩
theorem vX7_init_0 {G : wq_G} {l : Launch} {d C S : Nat} {K : wq_H → Prop} (hd1 : 1 ≤ d) {x0 : Nat} {h : wq_H} (V : wq_no G h 16 [.int 0, .null, .int 0] 3 C S (fun a1 h2 => wq_cw G l d (C - 1) (S - 3) mJ2_init [.ref a1] h2 (fun h3 C4 S5 => wq_pf G h3 x0 [(6, 0)] (.ref a1) (fun h6 => K h6)))) : wq_T G l d mX7_init (wq_qv K) 0 [some (.ref x0)] [] h C S := by
  refine wq_aload_n (pc := 0) dX7_init_0 rfl rfl ?_
  refine wq_objInit (pc := 1) q296 q157 q158 dX7_init_1 (Nat.le_of_ble_eq_true rfl) hd1 ?_
  refine wq_aload_n (pc := 4) dX7_init_4 rfl rfl ?_
  refine nwq297 (pc := 5) rfl dX7_init_5 V (fun a1 h2 V => ?_)
  refine wq_dup (pc := 8) dX7_init_8 rfl ?_
  refine clq298 (pc := 9) (As := []) (st := [.ref a1, .ref x0]) rfl dX7_init_9 rfl (Nat.le_of_ble_eq_true rfl) V (fun C4 S5 => wx_kv (fun h3 V => ?_))
  refine pfq299 (pc := 12) rfl rfl dX7_init_12 (wq_nfr rfl (some a1)) V (fun h6 V => ?_)
  refine wq_vret (pc := 15) dX7_init_15 rfl ⟨rfl, V⟩
theorem vX7_size_0 {G : wq_G} {l : Launch} {d C S : Nat} {K : Int32 → wq_H → Prop} {x0 : Nat} {h : wq_H} (V : wq_gR h x0 [(6, 0)] (fun a1 => ∃ fs6 : List Value, h a1 = some (.inr (16, fs6)) ∧ (wq_ci G l d C S mJ2_size [.ref a1] h (fun y5 h2 C3 S4 => K y5 h2)))) : wq_T G l d mX7_size (wq_qi K) 0 [some (.ref x0)] [] h C S := by
  refine wq_aload_n (pc := 0) dX7_size_0 rfl rfl ?_
  refine gfq299 (pc := 1) rfl dX7_size_1 V (fun a1 V => ?_)
  obtain ⟨fs6, w7, V⟩ := V
  refine clq809 (pc := 4) (As := []) (st := []) rfl dX7_size_4 rfl (Nat.le_of_ble_eq_true rfl) w7 V (fun C3 S4 => wx_ki (fun y5 h2 V => ?_))
  refine wq_iret (pc := 7) dX7_size_7 rfl ⟨_, rfl, V⟩
theorem vX7_copy_0 {G : wq_G} {l : Launch} {d C S : Nat} {K : Option Nat → wq_H → Prop} {x0 : Nat} {x1 : Int32} {h : wq_H} (V : wq_no G h 6 [.null] 1 C S (fun a1 h2 => wq_cw G l d (C - 1) (S - 1) mX7_init [.ref a1] h2 (fun h3 C4 S5 => wq_T G l d mX7_copy (wq_qq K) 10 [some (.ref x0), some (.int x1), some (.ref a1), some (.int (0 : Int32))] [] h3 C4 S5))) : wq_T G l d mX7_copy (wq_qq K) 0 [some (.ref x0), some (.int x1), none, none] [] h C S := by
  refine nwq948 (pc := 0) rfl dX7_copy_0 V (fun a1 h2 V => ?_)
  refine wq_dup (pc := 3) dX7_copy_3 rfl ?_
  refine clq949 (pc := 4) (As := []) (st := [.ref a1]) rfl dX7_copy_4 rfl (Nat.le_of_ble_eq_true rfl) V (fun C4 S5 => wx_kv (fun h3 V => ?_))
  refine wq_astore_n (L' := [some (.ref x0), some (.int x1), some (.ref a1), none]) (pc := 7) dX7_copy_7 rfl (Nat.le_of_ble_eq_true rfl) rfl ?_
  refine wq_iconst (pc := 8) dX7_copy_8 gsti0 ?_
  refine wq_istore_n (L' := [some (.ref x0), some (.int x1), some (.ref a1), some (.int (0 : Int32))]) (pc := 9) dX7_copy_9 rfl (Nat.le_of_ble_eq_true rfl) rfl ?_
  exact wq_T.less V ⟨rfl, ⟨rfl, ⟨rfl, ⟨rfl, trivial⟩⟩⟩⟩
theorem vX7_copy_10 {G : wq_G} {l : Launch} {d C S : Nat} {K : Option Nat → wq_H → Prop} {x0 : Nat} {x1 : Int32} {x2 : Nat} {x3 : Int32} {h : wq_H} (V : wq_gR h x0 [(6, 0)] (fun a1 => ∃ fs6 : List Value, h a1 = some (.inr (16, fs6)) ∧ (wq_ci G l d C S mJ2_size [.ref a1] h (fun y5 h2 C3 S4 => (y5 ≤ x3 → K (some x2) h2) ∧ (¬ y5 ≤ x3 → wq_gR h2 x2 [(6, 0)] (fun a8 => wq_gR h2 x0 [(6, 0)] (fun a9 => ∃ fs14 : List Value, h2 a9 = some (.inr (16, fs14)) ∧ (wq_cq G l d C3 S4 mJ2_get [.ref a9, .int x3] h2 (fun r13 h10 C11 S12 => wq_ct h10 r13 [8, 9] (fun a16 => (∃ fs21 : List Value, h10 a16 = some (.inr (8, fs21)) ∧ wq_cq G l d C11 S12 mX9_copy [.ref a16, .int x1] h10 (fun r20 h17 C18 S19 => ∃ fs27 : List Value, h17 a8 = some (.inr (16, fs27)) ∧ (wq_ci G l d C18 S19 mJ2_add [.ref a8, va_rf r20] h17 (fun y26 h23 C24 S25 => wq_T G l d mX7_copy (wq_qq K) 10 [some (.ref x0), some (.int x1), some (.ref x2), some (.int (x3 + (1 : Int32)))] [] h23 C24 S25)))) ∨ (∃ fs21 : List Value, h10 a16 = some (.inr (9, fs21)) ∧ wq_cq G l d C11 S12 mX9_copy [.ref a16, .int x1] h10 (fun r20 h17 C18 S19 => ∃ fs27 : List Value, h17 a8 = some (.inr (16, fs27)) ∧ (wq_ci G l d C18 S19 mJ2_add [.ref a8, va_rf r20] h17 (fun y26 h23 C24 S25 => wq_T G l d mX7_copy (wq_qq K) 10 [some (.ref x0), some (.int x1), some (.ref x2), some (.int (x3 + (1 : Int32)))] [] h23 C24 S25)))))))))))))) : wq_T G l d mX7_copy (wq_qq K) 10 [some (.ref x0), some (.int x1), some (.ref x2), some (.int x3)] [] h C S := by
  refine wq_iload_n (pc := 10) dX7_copy_10 rfl rfl ?_
  refine wq_aload_n (pc := 11) dX7_copy_11 rfl rfl ?_
  refine gfq299 (pc := 12) rfl dX7_copy_12 V (fun a1 V => ?_)
  obtain ⟨fs6, w7, V⟩ := V
  refine clq809 (pc := 15) (As := []) (st := [.int x3]) rfl dX7_copy_15 rfl (Nat.le_of_ble_eq_true rfl) w7 V (fun C3 S4 => wx_ki (fun y5 h2 V => ?_))
  refine wq_icmp_ge (pc := 18) (tgt := 50) dX7_copy_18 rfl (fun c => ?_) (fun c => ?_)
  · have V := V.1 c
    refine wq_aload_n (pc := 50) dX7_copy_50 rfl rfl ?_
    refine wq_aret (r := (some x2)) (pc := 51) dX7_copy_51 rfl rfl ⟨_, rfl, V⟩
  · have V := V.2 c
    refine wq_aload_n (pc := 21) dX7_copy_21 rfl rfl ?_
    refine gfq299 (pc := 22) rfl dX7_copy_22 V (fun a8 V => ?_)
    refine wq_aload_n (pc := 25) dX7_copy_25 rfl rfl ?_
    refine gfq299 (pc := 26) rfl dX7_copy_26 V (fun a9 V => ?_)
    refine wq_iload_n (pc := 29) dX7_copy_29 rfl rfl ?_
    obtain ⟨fs14, w15, V⟩ := V
    refine clq950 (pc := 30) (As := [.int x3]) (st := [.ref a8]) rfl dX7_copy_30 rfl (Nat.le_of_ble_eq_true rfl) w15 V (fun C11 S12 => wx_kq (fun r13 h10 V => ?_))
    refine ctq951 (r := r13) (pc := 33) rfl dX7_copy_33 V (fun a16 V => ?_)
    refine wq_iload_n (pc := 36) dX7_copy_36 rfl rfl ?_
    have T : ∀ C18 S19 r20 h17, (∃ fs27 : List Value, h17 a8 = some (.inr (16, fs27)) ∧ (wq_ci G l d C18 S19 mJ2_add [.ref a8, va_rf r20] h17 (fun y26 h23 C24 S25 => wq_T G l d mX7_copy (wq_qq K) 10 [some (.ref x0), some (.int x1), some (.ref x2), some (.int (x3 + (1 : Int32)))] [] h23 C24 S25))) → wq_T G l d mX7_copy (wq_qq K) 40 [some (.ref x0), some (.int x1), some (.ref x2), some (.int x3)] [va_rf r20, .ref a8] h17 C18 S19 := by
      intro C18 S19 r20 h17 V
      obtain ⟨fs27, w28, V⟩ := V
      refine clq972 (pc := 40) (As := [va_rf r20]) (st := []) rfl dX7_copy_40 rfl (Nat.le_of_ble_eq_true rfl) w28 V (fun C24 S25 => wx_ki (fun y26 h23 V => ?_))
      refine wq_pop (pc := 43) dX7_copy_43 rfl ?_
      refine wq_iinc (L' := [some (.ref x0), some (.int x1), some (.ref x2), some (.int (x3 + (1 : Int32)))]) (pc := 44) dX7_copy_44 rfl (by rw [gsti1]) (Nat.le_of_ble_eq_true rfl) rfl ?_
      refine wq_goto (pc := 47) (tgt := 10) dX7_copy_47 rfl ?_
      exact wq_T.less V ⟨rfl, ⟨rfl, ⟨rfl, ⟨rfl, trivial⟩⟩⟩⟩
    rcases V with ⟨fs21, w22, V⟩ | ⟨fs21, w22, V⟩
    · exact clq952_8 (pc := 37) (As := [.int x1]) (st := [.ref a8]) rfl dX7_copy_37 rfl (Nat.le_of_ble_eq_true rfl) w22 V (fun C18 S19 => wx_kq (fun r20 h17 V => T C18 S19 r20 h17 V))
    · exact clq952_9 (pc := 37) (As := [.int x1]) (st := [.ref a8]) rfl dX7_copy_37 rfl (Nat.le_of_ble_eq_true rfl) w22 V (fun C18 S19 => wx_kq (fun r20 h17 V => T C18 S19 r20 h17 V))
theorem vX7_set_0 {G : wq_G} {l : Launch} {d C S : Nat} {K : Option Nat → wq_H → Prop} {x0 : Nat} {x1 : Int32} {h : wq_H} (V : wq_gR h x0 [(6, 0)] (fun a1 => ∃ fs6 : List Value, h a1 = some (.inr (16, fs6)) ∧ (wq_cq G l d C S mJ2_get [.ref a1, .int x1] h (fun r5 h2 C3 S4 => wq_ct h2 r5 [8, 9] (fun a8 => K (some a8) h2))))) : wq_T G l d mX7_set (wq_qq K) 0 [some (.ref x0), some (.int x1)] [] h C S := by
  refine wq_aload_n (pc := 0) dX7_set_0 rfl rfl ?_
  refine gfq299 (pc := 1) rfl dX7_set_1 V (fun a1 V => ?_)
  refine wq_iload_n (pc := 4) dX7_set_4 rfl rfl ?_
  obtain ⟨fs6, w7, V⟩ := V
  refine clq950 (pc := 5) (As := [.int x1]) (st := []) rfl dX7_set_5 rfl (Nat.le_of_ble_eq_true rfl) w7 V (fun C3 S4 => wx_kq (fun r5 h2 V => ?_))
  refine ctq951 (r := r5) (pc := 8) rfl dX7_set_8 V (fun a8 V => ?_)
  refine wq_aret (r := (some a8)) (pc := 11) dX7_set_11 rfl rfl ⟨_, rfl, V⟩
theorem vX7_isOutcome_0 {G : wq_G} {l : Launch} {d C S : Nat} {K : Int32 → wq_H → Prop} {x0 : Nat} {x1 : Int32} {x2 : Int32} {h : wq_H} (V : ∃ fs5 : List Value, h x0 = some (.inr (6, fs5)) ∧ (wq_ci G l d C S mX7_size [.ref x0] h (fun y4 h1 C2 S3 => wq_ci G l d C2 S3 mX1_in [.int x1, .int (0 : Int32), .int (y4 - (1 : Int32))] h1 (fun y10 h7 C8 S9 => (y10 = 0 → K (0 : Int32) h7) ∧ (¬ y10 = 0 → ∃ fs15 : List Value, h7 x0 = some (.inr (6, fs15)) ∧ (wq_cq G l d C8 S9 mX7_set [.ref x0, .int x1] h7 (fun r14 h11 C12 S13 => ∃ a17, r14 = some a17 ∧ ((∃ fs23 : List Value, h11 a17 = some (.inr (8, fs23)) ∧ wq_ci G l d C12 S13 mX10_outcomes [.ref a17] h11 (fun y22 h19 C20 S21 => wq_ci G l d C20 S21 mX1_in [.int x2, .int (0 : Int32), .int (y22 - (1 : Int32))] h19 (fun y28 h25 C26 S27 => (y28 = 0 → K (0 : Int32) h25) ∧ (¬ y28 = 0 → K (1 : Int32) h25)))) ∨ (∃ fs23 : List Value, h11 a17 = some (.inr (9, fs23)) ∧ wq_ci G l d C12 S13 mX11_outcomes [.ref a17] h11 (fun y22 h19 C20 S21 => wq_ci G l d C20 S21 mX1_in [.int x2, .int (0 : Int32), .int (y22 - (1 : Int32))] h19 (fun y28 h25 C26 S27 => (y28 = 0 → K (0 : Int32) h25) ∧ (¬ y28 = 0 → K (1 : Int32) h25)))))))))))) : wq_T G l d mX7_isOutcome (wq_qi K) 0 [some (.ref x0), some (.int x1), some (.int x2)] [] h C S := by
  refine wq_iload_n (pc := 0) dX7_isOutcome_0 rfl rfl ?_
  refine wq_iconst (pc := 1) dX7_isOutcome_1 gsti0 ?_
  refine wq_aload_n (pc := 2) dX7_isOutcome_2 rfl rfl ?_
  obtain ⟨fs5, w6, V⟩ := V
  refine clq1080 (pc := 3) (As := []) (st := [.int (0 : Int32), .int x1]) rfl dX7_isOutcome_3 rfl (Nat.le_of_ble_eq_true rfl) w6 V (fun C2 S3 => wx_ki (fun y4 h1 V => ?_))
  refine wq_iconst (pc := 6) dX7_isOutcome_6 gsti1 ?_
  refine wq_isub (pc := 7) dX7_isOutcome_7 ?_
  refine clq1081 (pc := 8) (As := [.int x1, .int (0 : Int32), .int (y4 - (1 : Int32))]) (st := []) rfl dX7_isOutcome_8 rfl (Nat.le_of_ble_eq_true rfl) V (fun C8 S9 => wx_ki (fun y10 h7 V => ?_))
  refine wq_if_eq (pc := 11) (tgt := 36) dX7_isOutcome_11 rfl (fun c => ?_) (fun c => ?_)
  · have V := V.1 c
    refine wq_iconst (pc := 36) dX7_isOutcome_36 gsti0 ?_
    refine wq_zret (pc := 37) dX7_isOutcome_37 rfl gn_b0 ⟨_, rfl, V⟩
  · have V := V.2 c
    refine wq_iload_n (pc := 14) dX7_isOutcome_14 rfl rfl ?_
    refine wq_iconst (pc := 15) dX7_isOutcome_15 gsti0 ?_
    refine wq_aload_n (pc := 16) dX7_isOutcome_16 rfl rfl ?_
    refine wq_iload_n (pc := 17) dX7_isOutcome_17 rfl rfl ?_
    obtain ⟨fs15, w16, V⟩ := V
    refine clq1082 (pc := 18) (As := [.int x1]) (st := [.int (0 : Int32), .int x2]) rfl dX7_isOutcome_18 rfl (Nat.le_of_ble_eq_true rfl) w16 V (fun C12 S13 => wx_kq (fun r14 h11 V => ?_))
    obtain ⟨a17, w18, V⟩ := V
    rw [w18]
    have T : ∀ C20 S21 y22 h19, (wq_ci G l d C20 S21 mX1_in [.int x2, .int (0 : Int32), .int (y22 - (1 : Int32))] h19 (fun y28 h25 C26 S27 => (y28 = 0 → K (0 : Int32) h25) ∧ (¬ y28 = 0 → K (1 : Int32) h25))) → wq_T G l d mX7_isOutcome (wq_qi K) 24 [some (.ref x0), some (.int x1), some (.int x2)] [.int y22, .int (0 : Int32), .int x2] h19 C20 S21 := by
      intro C20 S21 y22 h19 V
      refine wq_iconst (pc := 24) dX7_isOutcome_24 gsti1 ?_
      refine wq_isub (pc := 25) dX7_isOutcome_25 ?_
      refine clq1081 (pc := 26) (As := [.int x2, .int (0 : Int32), .int (y22 - (1 : Int32))]) (st := []) rfl dX7_isOutcome_26 rfl (Nat.le_of_ble_eq_true rfl) V (fun C26 S27 => wx_ki (fun y28 h25 V => ?_))
      refine wq_if_eq (pc := 29) (tgt := 36) dX7_isOutcome_29 rfl (fun c => ?_) (fun c => ?_)
      · have V := V.1 c
        refine wq_iconst (pc := 36) dX7_isOutcome_36 gsti0 ?_
        refine wq_zret (pc := 37) dX7_isOutcome_37 rfl gn_b0 ⟨_, rfl, V⟩
      · have V := V.2 c
        refine wq_iconst (pc := 32) dX7_isOutcome_32 gsti1 ?_
        refine wq_goto (pc := 33) (tgt := 37) dX7_isOutcome_33 rfl ?_
        refine wq_zret (pc := 37) dX7_isOutcome_37 rfl gn_b1 ⟨_, rfl, V⟩
    rcases V with ⟨fs23, w24, V⟩ | ⟨fs23, w24, V⟩
    · exact clq1083_8 (pc := 21) (As := []) (st := [.int (0 : Int32), .int x2]) rfl dX7_isOutcome_21 rfl (Nat.le_of_ble_eq_true rfl) w24 V (fun C20 S21 => wx_ki (fun y22 h19 V => T C20 S21 y22 h19 V))
    · exact clq1083_9 (pc := 21) (As := []) (st := [.int (0 : Int32), .int x2]) rfl dX7_isOutcome_21 rfl (Nat.le_of_ble_eq_true rfl) w24 V (fun C20 S21 => wx_ki (fun y22 h19 V => T C20 S21 y22 h19 V))
theorem vX7_extend_0 {G : wq_G} {l : Launch} {d C S : Nat} {K : Int32 → wq_H → Prop} {x0 : Nat} {x1 : Int32} {x2 : Int32} {x3 : Int32} {h : wq_H} (V : wq_T G l d mX7_extend (wq_qi K) 3 [some (.ref x0), some (.int x1), some (.int x2), some (.int x3), some (.int (0 : Int32))] [] h C S) : wq_T G l d mX7_extend (wq_qi K) 0 [some (.ref x0), some (.int x1), some (.int x2), some (.int x3), none] [] h C S := by
  refine wq_iconst (pc := 0) dX7_extend_0 gsti0 ?_
  refine wq_istore (L' := [some (.ref x0), some (.int x1), some (.int x2), some (.int x3), some (.int (0 : Int32))]) (pc := 1) dX7_extend_1 (Nat.le_of_ble_eq_true rfl) rfl ?_
  exact wq_T.less V ⟨rfl, ⟨rfl, ⟨rfl, ⟨rfl, ⟨rfl, trivial⟩⟩⟩⟩⟩
theorem vX7_extend_3 {G : wq_G} {l : Launch} {d C S : Nat} {K : Int32 → wq_H → Prop} {x0 : Nat} {x1 : Int32} {x2 : Int32} {x3 : Int32} {x4 : Int32} {h : wq_H} (V : (x3 ≤ x4 → K (0 : Int32) h) ∧ (¬ x3 ≤ x4 → ∃ fs5 : List Value, h x0 = some (.inr (6, fs5)) ∧ (wq_cq G l d C S mX7_set [.ref x0, .int x1] h (fun r4 h1 C2 S3 => ∃ a7, r4 = some a7 ∧ ((∃ fs13 : List Value, h1 a7 = some (.inr (8, fs13)) ∧ wq_ci G l d C2 S3 mX10_outcome [.ref a7, .int x4] h1 (fun y12 h9 C10 S11 => (¬ y12 = x2 → wq_T G l d mX7_extend (wq_qi K) 3 [some (.ref x0), some (.int x1), some (.int x2), some (.int x3), some (.int (x4 + (1 : Int32)))] [] h9 C10 S11) ∧ (y12 = x2 → ∃ fs19 : List Value, h9 x0 = some (.inr (6, fs19)) ∧ (wq_ci G l d C10 S11 mX7_fits [.ref x0, .int x4, .int x1] h9 (fun y18 h15 C16 S17 => (y18 = 0 → wq_T G l d mX7_extend (wq_qi K) 3 [some (.ref x0), some (.int x1), some (.int x2), some (.int x3), some (.int (x4 + (1 : Int32)))] [] h15 C16 S17) ∧ (¬ y18 = 0 → K (1 : Int32) h15)))))) ∨ (∃ fs13 : List Value, h1 a7 = some (.inr (9, fs13)) ∧ wq_ci G l d C2 S3 mX11_outcome [.ref a7, .int x4] h1 (fun y12 h9 C10 S11 => (¬ y12 = x2 → wq_T G l d mX7_extend (wq_qi K) 3 [some (.ref x0), some (.int x1), some (.int x2), some (.int x3), some (.int (x4 + (1 : Int32)))] [] h9 C10 S11) ∧ (y12 = x2 → ∃ fs19 : List Value, h9 x0 = some (.inr (6, fs19)) ∧ (wq_ci G l d C10 S11 mX7_fits [.ref x0, .int x4, .int x1] h9 (fun y18 h15 C16 S17 => (y18 = 0 → wq_T G l d mX7_extend (wq_qi K) 3 [some (.ref x0), some (.int x1), some (.int x2), some (.int x3), some (.int (x4 + (1 : Int32)))] [] h15 C16 S17) ∧ (¬ y18 = 0 → K (1 : Int32) h15))))))))))) : wq_T G l d mX7_extend (wq_qi K) 3 [some (.ref x0), some (.int x1), some (.int x2), some (.int x3), some (.int x4)] [] h C S := by
  refine wq_iload (pc := 3) dX7_extend_3 rfl ?_
  refine wq_iload_n (pc := 5) dX7_extend_5 rfl rfl ?_
  refine wq_icmp_ge (pc := 6) (tgt := 41) dX7_extend_6 rfl (fun c => ?_) (fun c => ?_)
  · have V := V.1 c
    refine wq_iconst (pc := 41) dX7_extend_41 gsti0 ?_
    refine wq_zret (pc := 42) dX7_extend_42 rfl gn_b0 ⟨_, rfl, V⟩
  · have V := V.2 c
    refine wq_aload_n (pc := 9) dX7_extend_9 rfl rfl ?_
    refine wq_iload_n (pc := 10) dX7_extend_10 rfl rfl ?_
    obtain ⟨fs5, w6, V⟩ := V
    refine clq1082 (pc := 11) (As := [.int x1]) (st := []) rfl dX7_extend_11 rfl (Nat.le_of_ble_eq_true rfl) w6 V (fun C2 S3 => wx_kq (fun r4 h1 V => ?_))
    refine wq_iload (pc := 14) dX7_extend_14 rfl ?_
    obtain ⟨a7, w8, V⟩ := V
    rw [w8]
    have T : ∀ C10 S11 y12 h9, ((¬ y12 = x2 → wq_T G l d mX7_extend (wq_qi K) 3 [some (.ref x0), some (.int x1), some (.int x2), some (.int x3), some (.int (x4 + (1 : Int32)))] [] h9 C10 S11) ∧ (y12 = x2 → ∃ fs19 : List Value, h9 x0 = some (.inr (6, fs19)) ∧ (wq_ci G l d C10 S11 mX7_fits [.ref x0, .int x4, .int x1] h9 (fun y18 h15 C16 S17 => (y18 = 0 → wq_T G l d mX7_extend (wq_qi K) 3 [some (.ref x0), some (.int x1), some (.int x2), some (.int x3), some (.int (x4 + (1 : Int32)))] [] h15 C16 S17) ∧ (¬ y18 = 0 → K (1 : Int32) h15))))) → wq_T G l d mX7_extend (wq_qi K) 19 [some (.ref x0), some (.int x1), some (.int x2), some (.int x3), some (.int x4)] [.int y12] h9 C10 S11 := by
      intro C10 S11 y12 h9 V
      refine wq_iload_n (pc := 19) dX7_extend_19 rfl rfl ?_
      refine wq_icmp_ne (pc := 20) (tgt := 35) dX7_extend_20 rfl (fun c => ?_) (fun c => ?_)
      · have V := V.1 c
        refine wq_iinc (L' := [some (.ref x0), some (.int x1), some (.int x2), some (.int x3), some (.int (x4 + (1 : Int32)))]) (pc := 35) dX7_extend_35 rfl (by rw [gsti1]) (Nat.le_of_ble_eq_true rfl) rfl ?_
        refine wq_goto (pc := 38) (tgt := 3) dX7_extend_38 rfl ?_
        exact wq_T.less V ⟨rfl, ⟨rfl, ⟨rfl, ⟨rfl, ⟨rfl, trivial⟩⟩⟩⟩⟩
      · have V := V.2 c
        refine wq_aload_n (pc := 23) dX7_extend_23 rfl rfl ?_
        refine wq_iload (pc := 24) dX7_extend_24 rfl ?_
        refine wq_iload_n (pc := 26) dX7_extend_26 rfl rfl ?_
        obtain ⟨fs19, w20, V⟩ := V
        refine clq1093 (pc := 27) (As := [.int x4, .int x1]) (st := []) rfl dX7_extend_27 rfl (Nat.le_of_ble_eq_true rfl) w20 V (fun C16 S17 => wx_ki (fun y18 h15 V => ?_))
        refine wq_if_eq (pc := 30) (tgt := 35) dX7_extend_30 rfl (fun c => ?_) (fun c => ?_)
        · have V := V.1 c
          refine wq_iinc (L' := [some (.ref x0), some (.int x1), some (.int x2), some (.int x3), some (.int (x4 + (1 : Int32)))]) (pc := 35) dX7_extend_35 rfl (by rw [gsti1]) (Nat.le_of_ble_eq_true rfl) rfl ?_
          refine wq_goto (pc := 38) (tgt := 3) dX7_extend_38 rfl ?_
          exact wq_T.less V ⟨rfl, ⟨rfl, ⟨rfl, ⟨rfl, ⟨rfl, trivial⟩⟩⟩⟩⟩
        · have V := V.2 c
          refine wq_iconst (pc := 33) dX7_extend_33 gsti1 ?_
          refine wq_zret (pc := 34) dX7_extend_34 rfl gn_b1 ⟨_, rfl, V⟩
    rcases V with ⟨fs13, w14, V⟩ | ⟨fs13, w14, V⟩
    · exact clq1092_8 (pc := 16) (As := [.int x4]) (st := []) rfl dX7_extend_16 rfl (Nat.le_of_ble_eq_true rfl) w14 V (fun C10 S11 => wx_ki (fun y12 h9 V => T C10 S11 y12 h9 V))
    · exact clq1092_9 (pc := 16) (As := [.int x4]) (st := []) rfl dX7_extend_16 rfl (Nat.le_of_ble_eq_true rfl) w14 V (fun C10 S11 => wx_ki (fun y12 h9 V => T C10 S11 y12 h9 V))
theorem vX7_fits_0 {G : wq_G} {l : Launch} {d C S : Nat} {K : Int32 → wq_H → Prop} {x0 : Nat} {x1 : Int32} {x2 : Int32} {h : wq_H} (V : wq_T G l d mX7_fits (wq_qi K) 2 [some (.ref x0), some (.int x1), some (.int x2), some (.int (0 : Int32))] [] h C S) : wq_T G l d mX7_fits (wq_qi K) 0 [some (.ref x0), some (.int x1), some (.int x2), none] [] h C S := by
  refine wq_iconst (pc := 0) dX7_fits_0 gsti0 ?_
  refine wq_istore_n (L' := [some (.ref x0), some (.int x1), some (.int x2), some (.int (0 : Int32))]) (pc := 1) dX7_fits_1 rfl (Nat.le_of_ble_eq_true rfl) rfl ?_
  exact wq_T.less V ⟨rfl, ⟨rfl, ⟨rfl, ⟨rfl, trivial⟩⟩⟩⟩
theorem vX7_fits_2 {G : wq_G} {l : Launch} {d C S : Nat} {K : Int32 → wq_H → Prop} {x0 : Nat} {x1 : Int32} {x2 : Int32} {x3 : Int32} {h : wq_H} (V : ∃ fs5 : List Value, h x0 = some (.inr (6, fs5)) ∧ (wq_ci G l d C S mX7_size [.ref x0] h (fun y4 h1 C2 S3 => (y4 ≤ x3 → K (1 : Int32) h1) ∧ (¬ y4 ≤ x3 → (x3 = x2 → wq_T G l d mX7_fits (wq_qi K) 2 [some (.ref x0), some (.int x1), some (.int x2), some (.int (x3 + (1 : Int32)))] [] h1 C2 S3) ∧ (¬ x3 = x2 → ∃ fs11 : List Value, h1 x0 = some (.inr (6, fs11)) ∧ (wq_cq G l d C2 S3 mX7_set [.ref x0, .int x3] h1 (fun r10 h7 C8 S9 => ∃ fs17 : List Value, h7 x0 = some (.inr (6, fs17)) ∧ (wq_cq G l d C8 S9 mX7_set [.ref x0, .int x3] h7 (fun r16 h13 C14 S15 => ∃ a19, r16 = some a19 ∧ ((∃ fs25 : List Value, h13 a19 = some (.inr (8, fs25)) ∧ wq_ci G l d C14 S15 mX10_outcome [.ref a19, .int x1] h13 (fun y24 h21 C22 S23 => ∃ a27, r10 = some a27 ∧ ((∃ fs33 : List Value, h21 a27 = some (.inr (8, fs33)) ∧ wq_ci G l d C22 S23 mX9_isPossible [.ref a27, .int y24] h21 (fun y32 h29 C30 S31 => (¬ y32 = 0 → wq_T G l d mX7_fits (wq_qi K) 2 [some (.ref x0), some (.int x1), some (.int x2), some (.int (x3 + (1 : Int32)))] [] h29 C30 S31) ∧ (y32 = 0 → K (0 : Int32) h29))) ∨ (∃ fs33 : List Value, h21 a27 = some (.inr (9, fs33)) ∧ wq_ci G l d C22 S23 mX9_isPossible [.ref a27, .int y24] h21 (fun y32 h29 C30 S31 => (¬ y32 = 0 → wq_T G l d mX7_fits (wq_qi K) 2 [some (.ref x0), some (.int x1), some (.int x2), some (.int (x3 + (1 : Int32)))] [] h29 C30 S31) ∧ (y32 = 0 → K (0 : Int32) h29)))))) ∨ (∃ fs25 : List Value, h13 a19 = some (.inr (9, fs25)) ∧ wq_ci G l d C14 S15 mX11_outcome [.ref a19, .int x1] h13 (fun y24 h21 C22 S23 => ∃ a27, r10 = some a27 ∧ ((∃ fs33 : List Value, h21 a27 = some (.inr (8, fs33)) ∧ wq_ci G l d C22 S23 mX9_isPossible [.ref a27, .int y24] h21 (fun y32 h29 C30 S31 => (¬ y32 = 0 → wq_T G l d mX7_fits (wq_qi K) 2 [some (.ref x0), some (.int x1), some (.int x2), some (.int (x3 + (1 : Int32)))] [] h29 C30 S31) ∧ (y32 = 0 → K (0 : Int32) h29))) ∨ (∃ fs33 : List Value, h21 a27 = some (.inr (9, fs33)) ∧ wq_ci G l d C22 S23 mX9_isPossible [.ref a27, .int y24] h21 (fun y32 h29 C30 S31 => (¬ y32 = 0 → wq_T G l d mX7_fits (wq_qi K) 2 [some (.ref x0), some (.int x1), some (.int x2), some (.int (x3 + (1 : Int32)))] [] h29 C30 S31) ∧ (y32 = 0 → K (0 : Int32) h29)))))))))))))))) : wq_T G l d mX7_fits (wq_qi K) 2 [some (.ref x0), some (.int x1), some (.int x2), some (.int x3)] [] h C S := by
  refine wq_iload_n (pc := 2) dX7_fits_2 rfl rfl ?_
  refine wq_aload_n (pc := 3) dX7_fits_3 rfl rfl ?_
  obtain ⟨fs5, w6, V⟩ := V
  refine clq1080 (pc := 4) (As := []) (st := [.int x3]) rfl dX7_fits_4 rfl (Nat.le_of_ble_eq_true rfl) w6 V (fun C2 S3 => wx_ki (fun y4 h1 V => ?_))
  refine wq_icmp_ge (pc := 7) (tgt := 43) dX7_fits_7 rfl (fun c => ?_) (fun c => ?_)
  · have V := V.1 c
    refine wq_iconst (pc := 43) dX7_fits_43 gsti1 ?_
    refine wq_zret (pc := 44) dX7_fits_44 rfl gn_b1 ⟨_, rfl, V⟩
  · have V := V.2 c
    refine wq_iload_n (pc := 10) dX7_fits_10 rfl rfl ?_
    refine wq_iload_n (pc := 11) dX7_fits_11 rfl rfl ?_
    refine wq_icmp_eq (pc := 12) (tgt := 37) dX7_fits_12 rfl (fun c => ?_) (fun c => ?_)
    · have V := V.1 c
      refine wq_iinc (L' := [some (.ref x0), some (.int x1), some (.int x2), some (.int (x3 + (1 : Int32)))]) (pc := 37) dX7_fits_37 rfl (by rw [gsti1]) (Nat.le_of_ble_eq_true rfl) rfl ?_
      refine wq_goto (pc := 40) (tgt := 2) dX7_fits_40 rfl ?_
      exact wq_T.less V ⟨rfl, ⟨rfl, ⟨rfl, ⟨rfl, trivial⟩⟩⟩⟩
    · have V := V.2 c
      refine wq_aload_n (pc := 15) dX7_fits_15 rfl rfl ?_
      refine wq_iload_n (pc := 16) dX7_fits_16 rfl rfl ?_
      obtain ⟨fs11, w12, V⟩ := V
      refine clq1082 (pc := 17) (As := [.int x3]) (st := []) rfl dX7_fits_17 rfl (Nat.le_of_ble_eq_true rfl) w12 V (fun C8 S9 => wx_kq (fun r10 h7 V => ?_))
      refine wq_aload_n (pc := 20) dX7_fits_20 rfl rfl ?_
      refine wq_iload_n (pc := 21) dX7_fits_21 rfl rfl ?_
      obtain ⟨fs17, w18, V⟩ := V
      refine clq1082 (pc := 22) (As := [.int x3]) (st := [va_rf r10]) rfl dX7_fits_22 rfl (by simp only [List.map_cons, List.map_nil, List.sum_cons, List.sum_nil, wq_cat1]; exact Nat.le_of_ble_eq_true rfl) w18 V (fun C14 S15 => wx_kq (fun r16 h13 V => ?_))
      refine wq_iload_n (pc := 25) dX7_fits_25 rfl rfl ?_
      obtain ⟨a19, w20, V⟩ := V
      rw [w20]
      have T : ∀ C22 S23 y24 h21, (∃ a27, r10 = some a27 ∧ ((∃ fs33 : List Value, h21 a27 = some (.inr (8, fs33)) ∧ wq_ci G l d C22 S23 mX9_isPossible [.ref a27, .int y24] h21 (fun y32 h29 C30 S31 => (¬ y32 = 0 → wq_T G l d mX7_fits (wq_qi K) 2 [some (.ref x0), some (.int x1), some (.int x2), some (.int (x3 + (1 : Int32)))] [] h29 C30 S31) ∧ (y32 = 0 → K (0 : Int32) h29))) ∨ (∃ fs33 : List Value, h21 a27 = some (.inr (9, fs33)) ∧ wq_ci G l d C22 S23 mX9_isPossible [.ref a27, .int y24] h21 (fun y32 h29 C30 S31 => (¬ y32 = 0 → wq_T G l d mX7_fits (wq_qi K) 2 [some (.ref x0), some (.int x1), some (.int x2), some (.int (x3 + (1 : Int32)))] [] h29 C30 S31) ∧ (y32 = 0 → K (0 : Int32) h29))))) → wq_T G l d mX7_fits (wq_qi K) 29 [some (.ref x0), some (.int x1), some (.int x2), some (.int x3)] [.int y24, va_rf r10] h21 C22 S23 := by
        intro C22 S23 y24 h21 V
        obtain ⟨a27, w28, V⟩ := V
        rw [w28]
        have T : ∀ C30 S31 y32 h29, ((¬ y32 = 0 → wq_T G l d mX7_fits (wq_qi K) 2 [some (.ref x0), some (.int x1), some (.int x2), some (.int (x3 + (1 : Int32)))] [] h29 C30 S31) ∧ (y32 = 0 → K (0 : Int32) h29)) → wq_T G l d mX7_fits (wq_qi K) 32 [some (.ref x0), some (.int x1), some (.int x2), some (.int x3)] [.int y32] h29 C30 S31 := by
          intro C30 S31 y32 h29 V
          refine wq_if_ne (pc := 32) (tgt := 37) dX7_fits_32 rfl (fun c => ?_) (fun c => ?_)
          · have V := V.1 c
            refine wq_iinc (L' := [some (.ref x0), some (.int x1), some (.int x2), some (.int (x3 + (1 : Int32)))]) (pc := 37) dX7_fits_37 rfl (by rw [gsti1]) (Nat.le_of_ble_eq_true rfl) rfl ?_
            refine wq_goto (pc := 40) (tgt := 2) dX7_fits_40 rfl ?_
            exact wq_T.less V ⟨rfl, ⟨rfl, ⟨rfl, ⟨rfl, trivial⟩⟩⟩⟩
          · have V := V.2 c
            refine wq_iconst (pc := 35) dX7_fits_35 gsti0 ?_
            refine wq_zret (pc := 36) dX7_fits_36 rfl gn_b0 ⟨_, rfl, V⟩
        rcases V with ⟨fs33, w34, V⟩ | ⟨fs33, w34, V⟩
        · exact clq1097_8 (pc := 29) (As := [.int y24]) (st := []) rfl dX7_fits_29 rfl (Nat.le_of_ble_eq_true rfl) w34 V (fun C30 S31 => wx_ki (fun y32 h29 V => T C30 S31 y32 h29 V))
        · exact clq1097_9 (pc := 29) (As := [.int y24]) (st := []) rfl dX7_fits_29 rfl (Nat.le_of_ble_eq_true rfl) w34 V (fun C30 S31 => wx_ki (fun y32 h29 V => T C30 S31 y32 h29 V))
      rcases V with ⟨fs25, w26, V⟩ | ⟨fs25, w26, V⟩
      · exact clq1092_8 (pc := 26) (As := [.int x1]) (st := [va_rf r10]) rfl dX7_fits_26 rfl (by simp only [List.map_cons, List.map_nil, List.sum_cons, List.sum_nil, wq_cat1]; exact Nat.le_of_ble_eq_true rfl) w26 V (fun C22 S23 => wx_ki (fun y24 h21 V => T C22 S23 y24 h21 V))
      · exact clq1092_9 (pc := 26) (As := [.int x1]) (st := [va_rf r10]) rfl dX7_fits_26 rfl (by simp only [List.map_cons, List.map_nil, List.sum_cons, List.sum_nil, wq_cat1]; exact Nat.le_of_ble_eq_true rfl) w26 V (fun C22 S23 => wx_ki (fun y24 h21 V => T C22 S23 y24 h21 V))
theorem vX7_disturbed_0 {G : wq_G} {l : Launch} {d C S : Nat} {K : Int32 → wq_H → Prop} {x0 : Nat} {x1 : Int32} {h : wq_H} (V : wq_T G l d mX7_disturbed (wq_qi K) 2 [some (.ref x0), some (.int x1), some (.int (0 : Int32)), none, none, none] [] h C S) : wq_T G l d mX7_disturbed (wq_qi K) 0 [some (.ref x0), some (.int x1), none, none, none, none] [] h C S := by
  refine wq_iconst (pc := 0) dX7_disturbed_0 gsti0 ?_
  refine wq_istore_n (L' := [some (.ref x0), some (.int x1), some (.int (0 : Int32)), none, none, none]) (pc := 1) dX7_disturbed_1 rfl (Nat.le_of_ble_eq_true rfl) rfl ?_
  exact wq_T.less V ⟨rfl, ⟨rfl, ⟨rfl, trivial⟩⟩⟩
theorem vX7_disturbed_2 {G : wq_G} {l : Launch} {d C S : Nat} {K : Int32 → wq_H → Prop} {x0 : Nat} {x1 : Int32} {x2 : Int32} {h : wq_H} (V : (x1 ≤ x2 → K (-2 : Int32) h) ∧ (¬ x1 ≤ x2 → wq_T G l d mX7_disturbed (wq_qi K) 12 [some (.ref x0), some (.int x1), some (.int x2), some (.int (-1 : Int32)), some (.int (0 : Int32)), none] [] h C S)) : wq_T G l d mX7_disturbed (wq_qi K) 2 [some (.ref x0), some (.int x1), some (.int x2), none, none, none] [] h C S := by
  refine wq_iload_n (pc := 2) dX7_disturbed_2 rfl rfl ?_
  refine wq_iload_n (pc := 3) dX7_disturbed_3 rfl rfl ?_
  refine wq_icmp_ge (pc := 4) (tgt := 77) dX7_disturbed_4 rfl (fun c => ?_) (fun c => ?_)
  · have V := V.1 c
    refine wq_bipush (pc := 77) dX7_disturbed_77 gstbm2 ?_
    refine wq_iret (pc := 79) dX7_disturbed_79 rfl ⟨_, rfl, V⟩
  · have V := V.2 c
    refine wq_iconst (pc := 7) dX7_disturbed_7 gstim1 ?_
    refine wq_istore_n (L' := [some (.ref x0), some (.int x1), some (.int x2), some (.int (-1 : Int32)), none, none]) (pc := 8) dX7_disturbed_8 rfl (Nat.le_of_ble_eq_true rfl) rfl ?_
    refine wq_iconst (pc := 9) dX7_disturbed_9 gsti0 ?_
    refine wq_istore (L' := [some (.ref x0), some (.int x1), some (.int x2), some (.int (-1 : Int32)), some (.int (0 : Int32)), none]) (pc := 10) dX7_disturbed_10 (Nat.le_of_ble_eq_true rfl) rfl ?_
    exact wq_T.less V ⟨rfl, ⟨rfl, ⟨rfl, ⟨rfl, ⟨rfl, trivial⟩⟩⟩⟩⟩
theorem vX7_disturbed_12 {G : wq_G} {l : Launch} {d C S : Nat} {K : Int32 → wq_H → Prop} {x0 : Nat} {x1 : Int32} {x2 : Int32} {x3 : Int32} {x4 : Int32} {h : wq_H} (V : ∃ fs5 : List Value, h x0 = some (.inr (6, fs5)) ∧ (wq_ci G l d C S mX7_size [.ref x0] h (fun y4 h1 C2 S3 => (y4 ≤ x4 → wq_T G l d mX7_disturbed (wq_qi K) 2 [some (.ref x0), some (.int x1), some (.int (x2 + (1 : Int32))), none, none, none] [] h1 C2 S3) ∧ (¬ y4 ≤ x4 → ∃ fs11 : List Value, h1 x0 = some (.inr (6, fs11)) ∧ (wq_cq G l d C2 S3 mX7_set [.ref x0, .int x4] h1 (fun r10 h7 C8 S9 => ∃ a13, r10 = some a13 ∧ ((∃ fs19 : List Value, h7 a13 = some (.inr (8, fs19)) ∧ wq_ci G l d C8 S9 mX9_isOf [.ref a13, .int x2] h7 (fun y18 h15 C16 S17 => (¬ y18 = 0 → ∃ fs25 : List Value, h15 x0 = some (.inr (6, fs25)) ∧ (wq_cq G l d C16 S17 mX7_set [.ref x0, .int x4] h15 (fun r24 h21 C22 S23 => ∃ a27, r24 = some a27 ∧ ((∃ fs33 : List Value, h21 a27 = some (.inr (8, fs33)) ∧ wq_ci G l d C22 S23 mX10_ones [.ref a27, .int x2] h21 (fun y32 h29 C30 S31 => (x3 = (-1 : Int32) → wq_T G l d mX7_disturbed (wq_qi K) 12 [some (.ref x0), some (.int x1), some (.int x2), some (.int y32), some (.int (x4 + (1 : Int32))), none] [] h29 C30 S31) ∧ (¬ x3 = (-1 : Int32) → (x3 = y32 → wq_T G l d mX7_disturbed (wq_qi K) 12 [some (.ref x0), some (.int x1), some (.int x2), some (.int y32), some (.int (x4 + (1 : Int32))), none] [] h29 C30 S31) ∧ (¬ x3 = y32 → K x2 h29)))) ∨ (∃ fs33 : List Value, h21 a27 = some (.inr (9, fs33)) ∧ wq_ci G l d C22 S23 mX11_ones [.ref a27, .int x2] h21 (fun y32 h29 C30 S31 => (x3 = (-1 : Int32) → wq_T G l d mX7_disturbed (wq_qi K) 12 [some (.ref x0), some (.int x1), some (.int x2), some (.int y32), some (.int (x4 + (1 : Int32))), none] [] h29 C30 S31) ∧ (¬ x3 = (-1 : Int32) → (x3 = y32 → wq_T G l d mX7_disturbed (wq_qi K) 12 [some (.ref x0), some (.int x1), some (.int x2), some (.int y32), some (.int (x4 + (1 : Int32))), none] [] h29 C30 S31) ∧ (¬ x3 = y32 → K x2 h29)))))))) ∧ (y18 = 0 → wq_T G l d mX7_disturbed (wq_qi K) 12 [some (.ref x0), some (.int x1), some (.int x2), some (.int x3), some (.int (x4 + (1 : Int32))), none] [] h15 C16 S17))) ∨ (∃ fs19 : List Value, h7 a13 = some (.inr (9, fs19)) ∧ wq_ci G l d C8 S9 mX9_isOf [.ref a13, .int x2] h7 (fun y18 h15 C16 S17 => (¬ y18 = 0 → ∃ fs25 : List Value, h15 x0 = some (.inr (6, fs25)) ∧ (wq_cq G l d C16 S17 mX7_set [.ref x0, .int x4] h15 (fun r24 h21 C22 S23 => ∃ a27, r24 = some a27 ∧ ((∃ fs33 : List Value, h21 a27 = some (.inr (8, fs33)) ∧ wq_ci G l d C22 S23 mX10_ones [.ref a27, .int x2] h21 (fun y32 h29 C30 S31 => (x3 = (-1 : Int32) → wq_T G l d mX7_disturbed (wq_qi K) 12 [some (.ref x0), some (.int x1), some (.int x2), some (.int y32), some (.int (x4 + (1 : Int32))), none] [] h29 C30 S31) ∧ (¬ x3 = (-1 : Int32) → (x3 = y32 → wq_T G l d mX7_disturbed (wq_qi K) 12 [some (.ref x0), some (.int x1), some (.int x2), some (.int y32), some (.int (x4 + (1 : Int32))), none] [] h29 C30 S31) ∧ (¬ x3 = y32 → K x2 h29)))) ∨ (∃ fs33 : List Value, h21 a27 = some (.inr (9, fs33)) ∧ wq_ci G l d C22 S23 mX11_ones [.ref a27, .int x2] h21 (fun y32 h29 C30 S31 => (x3 = (-1 : Int32) → wq_T G l d mX7_disturbed (wq_qi K) 12 [some (.ref x0), some (.int x1), some (.int x2), some (.int y32), some (.int (x4 + (1 : Int32))), none] [] h29 C30 S31) ∧ (¬ x3 = (-1 : Int32) → (x3 = y32 → wq_T G l d mX7_disturbed (wq_qi K) 12 [some (.ref x0), some (.int x1), some (.int x2), some (.int y32), some (.int (x4 + (1 : Int32))), none] [] h29 C30 S31) ∧ (¬ x3 = y32 → K x2 h29)))))))) ∧ (y18 = 0 → wq_T G l d mX7_disturbed (wq_qi K) 12 [some (.ref x0), some (.int x1), some (.int x2), some (.int x3), some (.int (x4 + (1 : Int32))), none] [] h15 C16 S17)))))))))) : wq_T G l d mX7_disturbed (wq_qi K) 12 [some (.ref x0), some (.int x1), some (.int x2), some (.int x3), some (.int x4), none] [] h C S := by
  refine wq_iload (pc := 12) dX7_disturbed_12 rfl ?_
  refine wq_aload_n (pc := 14) dX7_disturbed_14 rfl rfl ?_
  obtain ⟨fs5, w6, V⟩ := V
  refine clq1080 (pc := 15) (As := []) (st := [.int x4]) rfl dX7_disturbed_15 rfl (Nat.le_of_ble_eq_true rfl) w6 V (fun C2 S3 => wx_ki (fun y4 h1 V => ?_))
  refine wq_icmp_ge (pc := 18) (tgt := 71) dX7_disturbed_18 rfl (fun c => ?_) (fun c => ?_)
  · have V := V.1 c
    refine wq_iinc (L' := [some (.ref x0), some (.int x1), some (.int (x2 + (1 : Int32))), some (.int x3), some (.int x4), none]) (pc := 71) dX7_disturbed_71 rfl (by rw [gsti1]) (Nat.le_of_ble_eq_true rfl) rfl ?_
    refine wq_goto (pc := 74) (tgt := 2) dX7_disturbed_74 rfl ?_
    exact wq_T.less V ⟨rfl, ⟨rfl, ⟨rfl, trivial⟩⟩⟩
  · have V := V.2 c
    refine wq_aload_n (pc := 21) dX7_disturbed_21 rfl rfl ?_
    refine wq_iload (pc := 22) dX7_disturbed_22 rfl ?_
    obtain ⟨fs11, w12, V⟩ := V
    refine clq1082 (pc := 24) (As := [.int x4]) (st := []) rfl dX7_disturbed_24 rfl (Nat.le_of_ble_eq_true rfl) w12 V (fun C8 S9 => wx_kq (fun r10 h7 V => ?_))
    refine wq_iload_n (pc := 27) dX7_disturbed_27 rfl rfl ?_
    obtain ⟨a13, w14, V⟩ := V
    rw [w14]
    have T : ∀ C16 S17 y18 h15, ((¬ y18 = 0 → ∃ fs25 : List Value, h15 x0 = some (.inr (6, fs25)) ∧ (wq_cq G l d C16 S17 mX7_set [.ref x0, .int x4] h15 (fun r24 h21 C22 S23 => ∃ a27, r24 = some a27 ∧ ((∃ fs33 : List Value, h21 a27 = some (.inr (8, fs33)) ∧ wq_ci G l d C22 S23 mX10_ones [.ref a27, .int x2] h21 (fun y32 h29 C30 S31 => (x3 = (-1 : Int32) → wq_T G l d mX7_disturbed (wq_qi K) 12 [some (.ref x0), some (.int x1), some (.int x2), some (.int y32), some (.int (x4 + (1 : Int32))), none] [] h29 C30 S31) ∧ (¬ x3 = (-1 : Int32) → (x3 = y32 → wq_T G l d mX7_disturbed (wq_qi K) 12 [some (.ref x0), some (.int x1), some (.int x2), some (.int y32), some (.int (x4 + (1 : Int32))), none] [] h29 C30 S31) ∧ (¬ x3 = y32 → K x2 h29)))) ∨ (∃ fs33 : List Value, h21 a27 = some (.inr (9, fs33)) ∧ wq_ci G l d C22 S23 mX11_ones [.ref a27, .int x2] h21 (fun y32 h29 C30 S31 => (x3 = (-1 : Int32) → wq_T G l d mX7_disturbed (wq_qi K) 12 [some (.ref x0), some (.int x1), some (.int x2), some (.int y32), some (.int (x4 + (1 : Int32))), none] [] h29 C30 S31) ∧ (¬ x3 = (-1 : Int32) → (x3 = y32 → wq_T G l d mX7_disturbed (wq_qi K) 12 [some (.ref x0), some (.int x1), some (.int x2), some (.int y32), some (.int (x4 + (1 : Int32))), none] [] h29 C30 S31) ∧ (¬ x3 = y32 → K x2 h29)))))))) ∧ (y18 = 0 → wq_T G l d mX7_disturbed (wq_qi K) 12 [some (.ref x0), some (.int x1), some (.int x2), some (.int x3), some (.int (x4 + (1 : Int32))), none] [] h15 C16 S17)) → wq_T G l d mX7_disturbed (wq_qi K) 31 [some (.ref x0), some (.int x1), some (.int x2), some (.int x3), some (.int x4), none] [.int y18] h15 C16 S17 := by
      intro C16 S17 y18 h15 V
      refine wq_if_ne (pc := 31) (tgt := 37) dX7_disturbed_31 rfl (fun c => ?_) (fun c => ?_)
      · have V := V.1 c
        refine wq_aload_n (pc := 37) dX7_disturbed_37 rfl rfl ?_
        refine wq_iload (pc := 38) dX7_disturbed_38 rfl ?_
        obtain ⟨fs25, w26, V⟩ := V
        refine clq1082 (pc := 40) (As := [.int x4]) (st := []) rfl dX7_disturbed_40 rfl (Nat.le_of_ble_eq_true rfl) w26 V (fun C22 S23 => wx_kq (fun r24 h21 V => ?_))
        refine wq_iload_n (pc := 43) dX7_disturbed_43 rfl rfl ?_
        obtain ⟨a27, w28, V⟩ := V
        rw [w28]
        have T : ∀ C30 S31 y32 h29, ((x3 = (-1 : Int32) → wq_T G l d mX7_disturbed (wq_qi K) 12 [some (.ref x0), some (.int x1), some (.int x2), some (.int y32), some (.int (x4 + (1 : Int32))), none] [] h29 C30 S31) ∧ (¬ x3 = (-1 : Int32) → (x3 = y32 → wq_T G l d mX7_disturbed (wq_qi K) 12 [some (.ref x0), some (.int x1), some (.int x2), some (.int y32), some (.int (x4 + (1 : Int32))), none] [] h29 C30 S31) ∧ (¬ x3 = y32 → K x2 h29))) → wq_T G l d mX7_disturbed (wq_qi K) 47 [some (.ref x0), some (.int x1), some (.int x2), some (.int x3), some (.int x4), none] [.int y32] h29 C30 S31 := by
          intro C30 S31 y32 h29 V
          refine wq_istore (L' := [some (.ref x0), some (.int x1), some (.int x2), some (.int x3), some (.int x4), some (.int y32)]) (pc := 47) dX7_disturbed_47 (Nat.le_of_ble_eq_true rfl) rfl ?_
          refine wq_iload_n (pc := 49) dX7_disturbed_49 rfl rfl ?_
          refine wq_iconst (pc := 50) dX7_disturbed_50 gstim1 ?_
          refine wq_icmp_eq (pc := 51) (tgt := 62) dX7_disturbed_51 rfl (fun c => ?_) (fun c => ?_)
          · have V := V.1 c
            refine wq_iload (pc := 62) dX7_disturbed_62 rfl ?_
            refine wq_istore_n (L' := [some (.ref x0), some (.int x1), some (.int x2), some (.int y32), some (.int x4), some (.int y32)]) (pc := 64) dX7_disturbed_64 rfl (Nat.le_of_ble_eq_true rfl) rfl ?_
            refine wq_iinc (L' := [some (.ref x0), some (.int x1), some (.int x2), some (.int y32), some (.int (x4 + (1 : Int32))), some (.int y32)]) (pc := 65) dX7_disturbed_65 rfl (by rw [gsti1]) (Nat.le_of_ble_eq_true rfl) rfl ?_
            refine wq_goto (pc := 68) (tgt := 12) dX7_disturbed_68 rfl ?_
            exact wq_T.less V ⟨rfl, ⟨rfl, ⟨rfl, ⟨rfl, ⟨rfl, trivial⟩⟩⟩⟩⟩
          · have V := V.2 c
            refine wq_iload_n (pc := 54) dX7_disturbed_54 rfl rfl ?_
            refine wq_iload (pc := 55) dX7_disturbed_55 rfl ?_
            refine wq_icmp_eq (pc := 57) (tgt := 62) dX7_disturbed_57 rfl (fun c => ?_) (fun c => ?_)
            · have V := V.1 c
              refine wq_iload (pc := 62) dX7_disturbed_62 rfl ?_
              refine wq_istore_n (L' := [some (.ref x0), some (.int x1), some (.int x2), some (.int y32), some (.int x4), some (.int y32)]) (pc := 64) dX7_disturbed_64 rfl (Nat.le_of_ble_eq_true rfl) rfl ?_
              refine wq_iinc (L' := [some (.ref x0), some (.int x1), some (.int x2), some (.int y32), some (.int (x4 + (1 : Int32))), some (.int y32)]) (pc := 65) dX7_disturbed_65 rfl (by rw [gsti1]) (Nat.le_of_ble_eq_true rfl) rfl ?_
              refine wq_goto (pc := 68) (tgt := 12) dX7_disturbed_68 rfl ?_
              exact wq_T.less V ⟨rfl, ⟨rfl, ⟨rfl, ⟨rfl, ⟨rfl, trivial⟩⟩⟩⟩⟩
            · have V := V.2 c
              refine wq_iload_n (pc := 60) dX7_disturbed_60 rfl rfl ?_
              refine wq_iret (pc := 61) dX7_disturbed_61 rfl ⟨_, rfl, V⟩
        rcases V with ⟨fs33, w34, V⟩ | ⟨fs33, w34, V⟩
        · exact clq1160_8 (pc := 44) (As := [.int x2]) (st := []) rfl dX7_disturbed_44 rfl (Nat.le_of_ble_eq_true rfl) w34 V (fun C30 S31 => wx_ki (fun y32 h29 V => T C30 S31 y32 h29 V))
        · exact clq1160_9 (pc := 44) (As := [.int x2]) (st := []) rfl dX7_disturbed_44 rfl (Nat.le_of_ble_eq_true rfl) w34 V (fun C30 S31 => wx_ki (fun y32 h29 V => T C30 S31 y32 h29 V))
      · have V := V.2 c
        refine wq_goto (pc := 34) (tgt := 65) dX7_disturbed_34 rfl ?_
        refine wq_iinc (L' := [some (.ref x0), some (.int x1), some (.int x2), some (.int x3), some (.int (x4 + (1 : Int32))), none]) (pc := 65) dX7_disturbed_65 rfl (by rw [gsti1]) (Nat.le_of_ble_eq_true rfl) rfl ?_
        refine wq_goto (pc := 68) (tgt := 12) dX7_disturbed_68 rfl ?_
        exact wq_T.less V ⟨rfl, ⟨rfl, ⟨rfl, ⟨rfl, ⟨rfl, trivial⟩⟩⟩⟩⟩
    rcases V with ⟨fs19, w20, V⟩ | ⟨fs19, w20, V⟩
    · exact clq1136_8 (pc := 28) (As := [.int x2]) (st := []) rfl dX7_disturbed_28 rfl (Nat.le_of_ble_eq_true rfl) w20 V (fun C16 S17 => wx_ki (fun y18 h15 V => T C16 S17 y18 h15 V))
    · exact clq1136_9 (pc := 28) (As := [.int x2]) (st := []) rfl dX7_disturbed_28 rfl (Nat.le_of_ble_eq_true rfl) w20 V (fun C16 S17 => wx_ki (fun y18 h15 V => T C16 S17 y18 h15 V))
theorem vX7_isCycle_0 {G : wq_G} {l : Launch} {d C S : Nat} {K : Int32 → wq_H → Prop} {x0 : Nat} {x1 : Int32} {h : wq_H} (V : wq_ci G l d C S mX1_bits [.int x1] h (fun y4 h1 C2 S3 => (y4 < (3 : Int32) → K (0 : Int32) h1) ∧ (¬ y4 < (3 : Int32) → ∃ fs9 : List Value, h1 x0 = some (.inr (6, fs9)) ∧ (wq_ci G l d C2 S3 mX7_size [.ref x0] h1 (fun y8 h5 C6 S7 => (x1 < ((1 : Int32) <<< (y8 &&& 31)) → wq_T G l d mX7_isCycle (wq_qi K) 27 [some (.ref x0), some (.int x1), some (.int (0 : Int32)), some (.int (0 : Int32)), some (.int (0 : Int32)), none] [] h5 C6 S7) ∧ (¬ x1 < ((1 : Int32) <<< (y8 &&& 31)) → K (0 : Int32) h5)))))) : wq_T G l d mX7_isCycle (wq_qi K) 0 [some (.ref x0), some (.int x1), none, none, none, none] [] h C S := by
  refine wq_iload_n (pc := 0) dX7_isCycle_0 rfl rfl ?_
  refine clq1193 (pc := 1) (As := [.int x1]) (st := []) rfl dX7_isCycle_1 rfl (Nat.le_of_ble_eq_true rfl) V (fun C2 S3 => wx_ki (fun y4 h1 V => ?_))
  refine wq_iconst (pc := 4) dX7_isCycle_4 gsti3 ?_
  refine wq_icmp_lt (pc := 5) (tgt := 18) dX7_isCycle_5 rfl (fun c => ?_) (fun c => ?_)
  · have V := V.1 c
    refine wq_iconst (pc := 18) dX7_isCycle_18 gsti0 ?_
    refine wq_zret (pc := 19) dX7_isCycle_19 rfl gn_b0 ⟨_, rfl, V⟩
  · have V := V.2 c
    refine wq_iload_n (pc := 8) dX7_isCycle_8 rfl rfl ?_
    refine wq_iconst (pc := 9) dX7_isCycle_9 gsti1 ?_
    refine wq_aload_n (pc := 10) dX7_isCycle_10 rfl rfl ?_
    obtain ⟨fs9, w10, V⟩ := V
    refine clq1080 (pc := 11) (As := []) (st := [.int (1 : Int32), .int x1]) rfl dX7_isCycle_11 rfl (Nat.le_of_ble_eq_true rfl) w10 V (fun C6 S7 => wx_ki (fun y8 h5 V => ?_))
    refine wq_ishl (pc := 14) dX7_isCycle_14 ?_
    refine wq_icmp_lt (pc := 15) (tgt := 20) dX7_isCycle_15 rfl (fun c => ?_) (fun c => ?_)
    · have V := V.1 c
      refine wq_iconst (pc := 20) dX7_isCycle_20 gsti0 ?_
      refine wq_istore_n (L' := [some (.ref x0), some (.int x1), some (.int (0 : Int32)), none, none, none]) (pc := 21) dX7_isCycle_21 rfl (Nat.le_of_ble_eq_true rfl) rfl ?_
      refine wq_iconst (pc := 22) dX7_isCycle_22 gsti0 ?_
      refine wq_istore_n (L' := [some (.ref x0), some (.int x1), some (.int (0 : Int32)), some (.int (0 : Int32)), none, none]) (pc := 23) dX7_isCycle_23 rfl (Nat.le_of_ble_eq_true rfl) rfl ?_
      refine wq_iconst (pc := 24) dX7_isCycle_24 gsti0 ?_
      refine wq_istore (L' := [some (.ref x0), some (.int x1), some (.int (0 : Int32)), some (.int (0 : Int32)), some (.int (0 : Int32)), none]) (pc := 25) dX7_isCycle_25 (Nat.le_of_ble_eq_true rfl) rfl ?_
      exact wq_T.less V ⟨rfl, ⟨rfl, ⟨rfl, ⟨rfl, ⟨rfl, trivial⟩⟩⟩⟩⟩
    · have V := V.2 c
      refine wq_iconst (pc := 18) dX7_isCycle_18 gsti0 ?_
      refine wq_zret (pc := 19) dX7_isCycle_19 rfl gn_b0 ⟨_, rfl, V⟩
theorem vX7_isCycle_27 {G : wq_G} {l : Launch} {d C S : Nat} {K : Int32 → wq_H → Prop} {x0 : Nat} {x1 : Int32} {x2 : Int32} {x3 : Int32} {x4 : Int32} {h : wq_H} (V : ∃ fs5 : List Value, h x0 = some (.inr (6, fs5)) ∧ (wq_ci G l d C S mX7_size [.ref x0] h (fun y4 h1 C2 S3 => (y4 ≤ x4 → (¬ x2 = x3 → K (0 : Int32) h1) ∧ (x2 = x3 → ∃ fs11 : List Value, h1 x0 = some (.inr (6, fs11)) ∧ (wq_ci G l d C2 S3 mX7_hangs [.ref x0, .int x1] h1 (fun y10 h7 C8 S9 => (y10 = 0 → K (0 : Int32) h7) ∧ (¬ y10 = 0 → K (1 : Int32) h7))))) ∧ (¬ y4 ≤ x4 → wq_ci G l d C2 S3 mX1_has [.int x1, .int x4] h1 (fun y16 h13 C14 S15 => (¬ y16 = 0 → ∃ fs21 : List Value, h13 x0 = some (.inr (6, fs21)) ∧ (wq_cq G l d C14 S15 mX7_set [.ref x0, .int x4] h13 (fun r20 h17 C18 S19 => ∃ a23, r20 = some a23 ∧ ((∃ fs29 : List Value, h17 a23 = some (.inr (8, fs29)) ∧ wq_ci G l d C18 S19 mX9_looks [.ref a23] h17 (fun y28 h25 C26 S27 => wq_ci G l d C26 S27 mX1_bits [.int y28] h25 (fun y34 h31 C32 S33 => (y34 < (2 : Int32) → K (0 : Int32) h31) ∧ (¬ y34 < (2 : Int32) → ((y28 &&& x3) = 0 → wq_T G l d mX7_isCycle (wq_qi K) 27 [some (.ref x0), some (.int x1), some (.int (x2 ||| y28)), some (.int (x3 ||| (x2 &&& y28))), some (.int (x4 + (1 : Int32))), none] [] h31 C32 S33) ∧ (¬ (y28 &&& x3) = 0 → K (0 : Int32) h31))))) ∨ (∃ fs29 : List Value, h17 a23 = some (.inr (9, fs29)) ∧ wq_ci G l d C18 S19 mX11_looks [.ref a23] h17 (fun y28 h25 C26 S27 => wq_ci G l d C26 S27 mX1_bits [.int y28] h25 (fun y34 h31 C32 S33 => (y34 < (2 : Int32) → K (0 : Int32) h31) ∧ (¬ y34 < (2 : Int32) → ((y28 &&& x3) = 0 → wq_T G l d mX7_isCycle (wq_qi K) 27 [some (.ref x0), some (.int x1), some (.int (x2 ||| y28)), some (.int (x3 ||| (x2 &&& y28))), some (.int (x4 + (1 : Int32))), none] [] h31 C32 S33) ∧ (¬ (y28 &&& x3) = 0 → K (0 : Int32) h31))))))))) ∧ (y16 = 0 → wq_T G l d mX7_isCycle (wq_qi K) 27 [some (.ref x0), some (.int x1), some (.int x2), some (.int x3), some (.int (x4 + (1 : Int32))), none] [] h13 C14 S15)))))) : wq_T G l d mX7_isCycle (wq_qi K) 27 [some (.ref x0), some (.int x1), some (.int x2), some (.int x3), some (.int x4), none] [] h C S := by
  refine wq_iload (pc := 27) dX7_isCycle_27 rfl ?_
  refine wq_aload_n (pc := 29) dX7_isCycle_29 rfl rfl ?_
  obtain ⟨fs5, w6, V⟩ := V
  refine clq1080 (pc := 30) (As := []) (st := [.int x4]) rfl dX7_isCycle_30 rfl (Nat.le_of_ble_eq_true rfl) w6 V (fun C2 S3 => wx_ki (fun y4 h1 V => ?_))
  refine wq_icmp_ge (pc := 33) (tgt := 95) dX7_isCycle_33 rfl (fun c => ?_) (fun c => ?_)
  · have V := V.1 c
    refine wq_iload_n (pc := 95) dX7_isCycle_95 rfl rfl ?_
    refine wq_iload_n (pc := 96) dX7_isCycle_96 rfl rfl ?_
    refine wq_icmp_ne (pc := 97) (tgt := 112) dX7_isCycle_97 rfl (fun c => ?_) (fun c => ?_)
    · have V := V.1 c
      refine wq_iconst (pc := 112) dX7_isCycle_112 gsti0 ?_
      refine wq_zret (pc := 113) dX7_isCycle_113 rfl gn_b0 ⟨_, rfl, V⟩
    · have V := V.2 c
      refine wq_aload_n (pc := 100) dX7_isCycle_100 rfl rfl ?_
      refine wq_iload_n (pc := 101) dX7_isCycle_101 rfl rfl ?_
      obtain ⟨fs11, w12, V⟩ := V
      refine clq1205 (pc := 102) (As := [.int x1]) (st := []) rfl dX7_isCycle_102 rfl (Nat.le_of_ble_eq_true rfl) w12 V (fun C8 S9 => wx_ki (fun y10 h7 V => ?_))
      refine wq_if_eq (pc := 105) (tgt := 112) dX7_isCycle_105 rfl (fun c => ?_) (fun c => ?_)
      · have V := V.1 c
        refine wq_iconst (pc := 112) dX7_isCycle_112 gsti0 ?_
        refine wq_zret (pc := 113) dX7_isCycle_113 rfl gn_b0 ⟨_, rfl, V⟩
      · have V := V.2 c
        refine wq_iconst (pc := 108) dX7_isCycle_108 gsti1 ?_
        refine wq_goto (pc := 109) (tgt := 113) dX7_isCycle_109 rfl ?_
        refine wq_zret (pc := 113) dX7_isCycle_113 rfl gn_b1 ⟨_, rfl, V⟩
  · have V := V.2 c
    refine wq_iload_n (pc := 36) dX7_isCycle_36 rfl rfl ?_
    refine wq_iload (pc := 37) dX7_isCycle_37 rfl ?_
    refine clq1196 (pc := 39) (As := [.int x1, .int x4]) (st := []) rfl dX7_isCycle_39 rfl (Nat.le_of_ble_eq_true rfl) V (fun C14 S15 => wx_ki (fun y16 h13 V => ?_))
    refine wq_if_ne (pc := 42) (tgt := 48) dX7_isCycle_42 rfl (fun c => ?_) (fun c => ?_)
    · have V := V.1 c
      refine wq_aload_n (pc := 48) dX7_isCycle_48 rfl rfl ?_
      refine wq_iload (pc := 49) dX7_isCycle_49 rfl ?_
      obtain ⟨fs21, w22, V⟩ := V
      refine clq1082 (pc := 51) (As := [.int x4]) (st := []) rfl dX7_isCycle_51 rfl (Nat.le_of_ble_eq_true rfl) w22 V (fun C18 S19 => wx_kq (fun r20 h17 V => ?_))
      obtain ⟨a23, w24, V⟩ := V
      rw [w24]
      have T : ∀ C26 S27 y28 h25, (wq_ci G l d C26 S27 mX1_bits [.int y28] h25 (fun y34 h31 C32 S33 => (y34 < (2 : Int32) → K (0 : Int32) h31) ∧ (¬ y34 < (2 : Int32) → ((y28 &&& x3) = 0 → wq_T G l d mX7_isCycle (wq_qi K) 27 [some (.ref x0), some (.int x1), some (.int (x2 ||| y28)), some (.int (x3 ||| (x2 &&& y28))), some (.int (x4 + (1 : Int32))), none] [] h31 C32 S33) ∧ (¬ (y28 &&& x3) = 0 → K (0 : Int32) h31)))) → wq_T G l d mX7_isCycle (wq_qi K) 57 [some (.ref x0), some (.int x1), some (.int x2), some (.int x3), some (.int x4), none] [.int y28] h25 C26 S27 := by
        intro C26 S27 y28 h25 V
        refine wq_istore (L' := [some (.ref x0), some (.int x1), some (.int x2), some (.int x3), some (.int x4), some (.int y28)]) (pc := 57) dX7_isCycle_57 (Nat.le_of_ble_eq_true rfl) rfl ?_
        refine wq_iload (pc := 59) dX7_isCycle_59 rfl ?_
        refine clq1193 (pc := 61) (As := [.int y28]) (st := []) rfl dX7_isCycle_61 rfl (Nat.le_of_ble_eq_true rfl) V (fun C32 S33 => wx_ki (fun y34 h31 V => ?_))
        refine wq_iconst (pc := 64) dX7_isCycle_64 gsti2 ?_
        refine wq_icmp_lt (pc := 65) (tgt := 75) dX7_isCycle_65 rfl (fun c => ?_) (fun c => ?_)
        · have V := V.1 c
          refine wq_iconst (pc := 75) dX7_isCycle_75 gsti0 ?_
          refine wq_zret (pc := 76) dX7_isCycle_76 rfl gn_b0 ⟨_, rfl, V⟩
        · have V := V.2 c
          refine wq_iload (pc := 68) dX7_isCycle_68 rfl ?_
          refine wq_iload_n (pc := 70) dX7_isCycle_70 rfl rfl ?_
          refine wq_iand (pc := 71) dX7_isCycle_71 ?_
          refine wq_if_eq (pc := 72) (tgt := 77) dX7_isCycle_72 rfl (fun c => ?_) (fun c => ?_)
          · have V := V.1 c
            refine wq_iload_n (pc := 77) dX7_isCycle_77 rfl rfl ?_
            refine wq_iload_n (pc := 78) dX7_isCycle_78 rfl rfl ?_
            refine wq_iload (pc := 79) dX7_isCycle_79 rfl ?_
            refine wq_iand (pc := 81) dX7_isCycle_81 ?_
            refine wq_ior (pc := 82) dX7_isCycle_82 ?_
            refine wq_istore_n (L' := [some (.ref x0), some (.int x1), some (.int x2), some (.int (x3 ||| (x2 &&& y28))), some (.int x4), some (.int y28)]) (pc := 83) dX7_isCycle_83 rfl (Nat.le_of_ble_eq_true rfl) rfl ?_
            refine wq_iload_n (pc := 84) dX7_isCycle_84 rfl rfl ?_
            refine wq_iload (pc := 85) dX7_isCycle_85 rfl ?_
            refine wq_ior (pc := 87) dX7_isCycle_87 ?_
            refine wq_istore_n (L' := [some (.ref x0), some (.int x1), some (.int (x2 ||| y28)), some (.int (x3 ||| (x2 &&& y28))), some (.int x4), some (.int y28)]) (pc := 88) dX7_isCycle_88 rfl (Nat.le_of_ble_eq_true rfl) rfl ?_
            refine wq_iinc (L' := [some (.ref x0), some (.int x1), some (.int (x2 ||| y28)), some (.int (x3 ||| (x2 &&& y28))), some (.int (x4 + (1 : Int32))), some (.int y28)]) (pc := 89) dX7_isCycle_89 rfl (by rw [gsti1]) (Nat.le_of_ble_eq_true rfl) rfl ?_
            refine wq_goto (pc := 92) (tgt := 27) dX7_isCycle_92 rfl ?_
            exact wq_T.less V ⟨rfl, ⟨rfl, ⟨rfl, ⟨rfl, ⟨rfl, trivial⟩⟩⟩⟩⟩
          · have V := V.2 c
            refine wq_iconst (pc := 75) dX7_isCycle_75 gsti0 ?_
            refine wq_zret (pc := 76) dX7_isCycle_76 rfl gn_b0 ⟨_, rfl, V⟩
      rcases V with ⟨fs29, w30, V⟩ | ⟨fs29, w30, V⟩
      · exact clq1197_8 (pc := 54) (As := []) (st := []) rfl dX7_isCycle_54 rfl (Nat.le_of_ble_eq_true rfl) w30 V (fun C26 S27 => wx_ki (fun y28 h25 V => T C26 S27 y28 h25 V))
      · exact clq1197_9 (pc := 54) (As := []) (st := []) rfl dX7_isCycle_54 rfl (Nat.le_of_ble_eq_true rfl) w30 V (fun C26 S27 => wx_ki (fun y28 h25 V => T C26 S27 y28 h25 V))
    · have V := V.2 c
      refine wq_goto (pc := 45) (tgt := 89) dX7_isCycle_45 rfl ?_
      refine wq_iinc (L' := [some (.ref x0), some (.int x1), some (.int x2), some (.int x3), some (.int (x4 + (1 : Int32))), none]) (pc := 89) dX7_isCycle_89 rfl (by rw [gsti1]) (Nat.le_of_ble_eq_true rfl) rfl ?_
      refine wq_goto (pc := 92) (tgt := 27) dX7_isCycle_92 rfl ?_
      exact wq_T.less V ⟨rfl, ⟨rfl, ⟨rfl, ⟨rfl, ⟨rfl, trivial⟩⟩⟩⟩⟩
theorem vX7_hangs_0 {G : wq_G} {l : Launch} {d C S : Nat} {K : Int32 → wq_H → Prop} {x0 : Nat} {x1 : Int32} {h : wq_H} (V : wq_T G l d mX7_hangs (wq_qi K) 7 [some (.ref x0), none, some (.int (0 : Int32)), some (.int x1), some (.int (1 : Int32)), none] [] h C S) : wq_T G l d mX7_hangs (wq_qi K) 0 [some (.ref x0), some (.int x1), none, none, none, none] [] h C S := by
  refine wq_iconst (pc := 0) dX7_hangs_0 gsti0 ?_
  refine wq_istore_n (L' := [some (.ref x0), some (.int x1), some (.int (0 : Int32)), none, none, none]) (pc := 1) dX7_hangs_1 rfl (Nat.le_of_ble_eq_true rfl) rfl ?_
  refine wq_iload_n (pc := 2) dX7_hangs_2 rfl rfl ?_
  refine wq_istore_n (L' := [some (.ref x0), some (.int x1), some (.int (0 : Int32)), some (.int x1), none, none]) (pc := 3) dX7_hangs_3 rfl (Nat.le_of_ble_eq_true rfl) rfl ?_
  refine wq_iconst (pc := 4) dX7_hangs_4 gsti1 ?_
  refine wq_istore (L' := [some (.ref x0), some (.int x1), some (.int (0 : Int32)), some (.int x1), some (.int (1 : Int32)), none]) (pc := 5) dX7_hangs_5 (Nat.le_of_ble_eq_true rfl) rfl ?_
  exact wq_T.less V ⟨rfl, ⟨rfl, ⟨rfl, ⟨rfl, trivial⟩⟩⟩⟩
theorem vX7_hangs_7 {G : wq_G} {l : Launch} {d C S : Nat} {K : Int32 → wq_H → Prop} {x0 : Nat} {x2 : Int32} {x3 : Int32} {x4 : Int32} {h : wq_H} (V : (x4 = 0 → (¬ x3 = 0 → K (0 : Int32) h) ∧ (x3 = 0 → K (1 : Int32) h)) ∧ (¬ x4 = 0 → wq_T G l d mX7_hangs (wq_qi K) 18 [some (.ref x0), none, some (.int x2), some (.int x3), some (.int (0 : Int32)), some (.int (0 : Int32))] [] h C S)) : wq_T G l d mX7_hangs (wq_qi K) 7 [some (.ref x0), none, some (.int x2), some (.int x3), some (.int x4), none] [] h C S := by
  refine wq_iload (pc := 7) dX7_hangs_7 rfl ?_
  refine wq_if_eq (pc := 9) (tgt := 90) dX7_hangs_9 rfl (fun c => ?_) (fun c => ?_)
  · have V := V.1 c
    refine wq_iload_n (pc := 90) dX7_hangs_90 rfl rfl ?_
    refine wq_if_ne (pc := 91) (tgt := 98) dX7_hangs_91 rfl (fun c => ?_) (fun c => ?_)
    · have V := V.1 c
      refine wq_iconst (pc := 98) dX7_hangs_98 gsti0 ?_
      refine wq_zret (pc := 99) dX7_hangs_99 rfl gn_b0 ⟨_, rfl, V⟩
    · have V := V.2 c
      refine wq_iconst (pc := 94) dX7_hangs_94 gsti1 ?_
      refine wq_goto (pc := 95) (tgt := 99) dX7_hangs_95 rfl ?_
      refine wq_zret (pc := 99) dX7_hangs_99 rfl gn_b1 ⟨_, rfl, V⟩
  · have V := V.2 c
    refine wq_iconst (pc := 12) dX7_hangs_12 gsti0 ?_
    refine wq_istore (L' := [some (.ref x0), none, some (.int x2), some (.int x3), some (.int (0 : Int32)), none]) (pc := 13) dX7_hangs_13 (Nat.le_of_ble_eq_true rfl) rfl ?_
    refine wq_iconst (pc := 15) dX7_hangs_15 gsti0 ?_
    refine wq_istore (L' := [some (.ref x0), none, some (.int x2), some (.int x3), some (.int (0 : Int32)), some (.int (0 : Int32))]) (pc := 16) dX7_hangs_16 (Nat.le_of_ble_eq_true rfl) rfl ?_
    exact wq_T.less V ⟨rfl, ⟨rfl, ⟨rfl, ⟨rfl, ⟨rfl, trivial⟩⟩⟩⟩⟩
theorem vX7_hangs_18 {G : wq_G} {l : Launch} {d C S : Nat} {K : Int32 → wq_H → Prop} {x0 : Nat} {x2 : Int32} {x3 : Int32} {x4 : Int32} {x5 : Int32} {h : wq_H} (V : ∃ fs5 : List Value, h x0 = some (.inr (6, fs5)) ∧ (wq_ci G l d C S mX7_size [.ref x0] h (fun y4 h1 C2 S3 => (y4 ≤ x5 → wq_T G l d mX7_hangs (wq_qi K) 7 [some (.ref x0), none, some (.int x2), some (.int x3), some (.int x4), none] [] h1 C2 S3) ∧ (¬ y4 ≤ x5 → wq_ci G l d C2 S3 mX1_has [.int x3, .int x5] h1 (fun y10 h7 C8 S9 => (y10 = 0 → wq_T G l d mX7_hangs (wq_qi K) 18 [some (.ref x0), none, some (.int x2), some (.int x3), some (.int x4), some (.int (x5 + (1 : Int32)))] [] h7 C8 S9) ∧ (¬ y10 = 0 → (x2 = 0 → ∃ fs15 : List Value, h7 x0 = some (.inr (6, fs15)) ∧ (wq_cq G l d C8 S9 mX7_set [.ref x0, .int x5] h7 (fun r14 h11 C12 S13 => ∃ a17, r14 = some a17 ∧ ((∃ fs23 : List Value, h11 a17 = some (.inr (8, fs23)) ∧ wq_ci G l d C12 S13 mX9_looks [.ref a17] h11 (fun y22 h19 C20 S21 => wq_T G l d mX7_hangs (wq_qi K) 18 [some (.ref x0), none, some (.int (x2 ||| y22)), some (.int (x3 &&& (((1 : Int32) <<< (x5 &&& 31)) ^^^ (-1 : Int32)))), some (.int (1 : Int32)), some (.int (x5 + (1 : Int32)))] [] h19 C20 S21)) ∨ (∃ fs23 : List Value, h11 a17 = some (.inr (9, fs23)) ∧ wq_ci G l d C12 S13 mX11_looks [.ref a17] h11 (fun y22 h19 C20 S21 => wq_T G l d mX7_hangs (wq_qi K) 18 [some (.ref x0), none, some (.int (x2 ||| y22)), some (.int (x3 &&& (((1 : Int32) <<< (x5 &&& 31)) ^^^ (-1 : Int32)))), some (.int (1 : Int32)), some (.int (x5 + (1 : Int32)))] [] h19 C20 S21)))))) ∧ (¬ x2 = 0 → ∃ fs29 : List Value, h7 x0 = some (.inr (6, fs29)) ∧ (wq_cq G l d C8 S9 mX7_set [.ref x0, .int x5] h7 (fun r28 h25 C26 S27 => ∃ a31, r28 = some a31 ∧ ((∃ fs37 : List Value, h25 a31 = some (.inr (8, fs37)) ∧ wq_ci G l d C26 S27 mX9_looks [.ref a31] h25 (fun y36 h33 C34 S35 => (¬ (x2 &&& y36) = 0 → ∃ fs43 : List Value, h33 x0 = some (.inr (6, fs43)) ∧ (wq_cq G l d C34 S35 mX7_set [.ref x0, .int x5] h33 (fun r42 h39 C40 S41 => ∃ a45, r42 = some a45 ∧ ((∃ fs51 : List Value, h39 a45 = some (.inr (8, fs51)) ∧ wq_ci G l d C40 S41 mX9_looks [.ref a45] h39 (fun y50 h47 C48 S49 => wq_T G l d mX7_hangs (wq_qi K) 18 [some (.ref x0), none, some (.int (x2 ||| y50)), some (.int (x3 &&& (((1 : Int32) <<< (x5 &&& 31)) ^^^ (-1 : Int32)))), some (.int (1 : Int32)), some (.int (x5 + (1 : Int32)))] [] h47 C48 S49)) ∨ (∃ fs51 : List Value, h39 a45 = some (.inr (9, fs51)) ∧ wq_ci G l d C40 S41 mX11_looks [.ref a45] h39 (fun y50 h47 C48 S49 => wq_T G l d mX7_hangs (wq_qi K) 18 [some (.ref x0), none, some (.int (x2 ||| y50)), some (.int (x3 &&& (((1 : Int32) <<< (x5 &&& 31)) ^^^ (-1 : Int32)))), some (.int (1 : Int32)), some (.int (x5 + (1 : Int32)))] [] h47 C48 S49)))))) ∧ ((x2 &&& y36) = 0 → wq_T G l d mX7_hangs (wq_qi K) 18 [some (.ref x0), none, some (.int x2), some (.int x3), some (.int x4), some (.int (x5 + (1 : Int32)))] [] h33 C34 S35))) ∨ (∃ fs37 : List Value, h25 a31 = some (.inr (9, fs37)) ∧ wq_ci G l d C26 S27 mX11_looks [.ref a31] h25 (fun y36 h33 C34 S35 => (¬ (x2 &&& y36) = 0 → ∃ fs43 : List Value, h33 x0 = some (.inr (6, fs43)) ∧ (wq_cq G l d C34 S35 mX7_set [.ref x0, .int x5] h33 (fun r42 h39 C40 S41 => ∃ a45, r42 = some a45 ∧ ((∃ fs51 : List Value, h39 a45 = some (.inr (8, fs51)) ∧ wq_ci G l d C40 S41 mX9_looks [.ref a45] h39 (fun y50 h47 C48 S49 => wq_T G l d mX7_hangs (wq_qi K) 18 [some (.ref x0), none, some (.int (x2 ||| y50)), some (.int (x3 &&& (((1 : Int32) <<< (x5 &&& 31)) ^^^ (-1 : Int32)))), some (.int (1 : Int32)), some (.int (x5 + (1 : Int32)))] [] h47 C48 S49)) ∨ (∃ fs51 : List Value, h39 a45 = some (.inr (9, fs51)) ∧ wq_ci G l d C40 S41 mX11_looks [.ref a45] h39 (fun y50 h47 C48 S49 => wq_T G l d mX7_hangs (wq_qi K) 18 [some (.ref x0), none, some (.int (x2 ||| y50)), some (.int (x3 &&& (((1 : Int32) <<< (x5 &&& 31)) ^^^ (-1 : Int32)))), some (.int (1 : Int32)), some (.int (x5 + (1 : Int32)))] [] h47 C48 S49)))))) ∧ ((x2 &&& y36) = 0 → wq_T G l d mX7_hangs (wq_qi K) 18 [some (.ref x0), none, some (.int x2), some (.int x3), some (.int x4), some (.int (x5 + (1 : Int32)))] [] h33 C34 S35))))))))))))) : wq_T G l d mX7_hangs (wq_qi K) 18 [some (.ref x0), none, some (.int x2), some (.int x3), some (.int x4), some (.int x5)] [] h C S := by
  refine wq_iload (pc := 18) dX7_hangs_18 rfl ?_
  refine wq_aload_n (pc := 20) dX7_hangs_20 rfl rfl ?_
  obtain ⟨fs5, w6, V⟩ := V
  refine clq1080 (pc := 21) (As := []) (st := [.int x5]) rfl dX7_hangs_21 rfl (Nat.le_of_ble_eq_true rfl) w6 V (fun C2 S3 => wx_ki (fun y4 h1 V => ?_))
  refine wq_icmp_ge (pc := 24) (tgt := 87) dX7_hangs_24 rfl (fun c => ?_) (fun c => ?_)
  · have V := V.1 c
    refine wq_goto (pc := 87) (tgt := 7) dX7_hangs_87 rfl ?_
    exact wq_T.less V ⟨rfl, ⟨rfl, ⟨rfl, ⟨rfl, trivial⟩⟩⟩⟩
  · have V := V.2 c
    refine wq_iload_n (pc := 27) dX7_hangs_27 rfl rfl ?_
    refine wq_iload (pc := 28) dX7_hangs_28 rfl ?_
    refine clq1196 (pc := 30) (As := [.int x3, .int x5]) (st := []) rfl dX7_hangs_30 rfl (Nat.le_of_ble_eq_true rfl) V (fun C8 S9 => wx_ki (fun y10 h7 V => ?_))
    refine wq_if_eq (pc := 33) (tgt := 81) dX7_hangs_33 rfl (fun c => ?_) (fun c => ?_)
    · have V := V.1 c
      refine wq_iinc (L' := [some (.ref x0), none, some (.int x2), some (.int x3), some (.int x4), some (.int (x5 + (1 : Int32)))]) (pc := 81) dX7_hangs_81 rfl (by rw [gsti1]) (Nat.le_of_ble_eq_true rfl) rfl ?_
      refine wq_goto (pc := 84) (tgt := 18) dX7_hangs_84 rfl ?_
      exact wq_T.less V ⟨rfl, ⟨rfl, ⟨rfl, ⟨rfl, ⟨rfl, trivial⟩⟩⟩⟩⟩
    · have V := V.2 c
      refine wq_iload_n (pc := 36) dX7_hangs_36 rfl rfl ?_
      refine wq_if_eq (pc := 37) (tgt := 57) dX7_hangs_37 rfl (fun c => ?_) (fun c => ?_)
      · have V := V.1 c
        refine wq_iload_n (pc := 57) dX7_hangs_57 rfl rfl ?_
        refine wq_aload_n (pc := 58) dX7_hangs_58 rfl rfl ?_
        refine wq_iload (pc := 59) dX7_hangs_59 rfl ?_
        obtain ⟨fs15, w16, V⟩ := V
        refine clq1082 (pc := 61) (As := [.int x5]) (st := [.int x2]) rfl dX7_hangs_61 rfl (Nat.le_of_ble_eq_true rfl) w16 V (fun C12 S13 => wx_kq (fun r14 h11 V => ?_))
        obtain ⟨a17, w18, V⟩ := V
        rw [w18]
        have T : ∀ C20 S21 y22 h19, (wq_T G l d mX7_hangs (wq_qi K) 18 [some (.ref x0), none, some (.int (x2 ||| y22)), some (.int (x3 &&& (((1 : Int32) <<< (x5 &&& 31)) ^^^ (-1 : Int32)))), some (.int (1 : Int32)), some (.int (x5 + (1 : Int32)))] [] h19 C20 S21) → wq_T G l d mX7_hangs (wq_qi K) 67 [some (.ref x0), none, some (.int x2), some (.int x3), some (.int x4), some (.int x5)] [.int y22, .int x2] h19 C20 S21 := by
          intro C20 S21 y22 h19 V
          refine wq_ior (pc := 67) dX7_hangs_67 ?_
          refine wq_istore_n (L' := [some (.ref x0), none, some (.int (x2 ||| y22)), some (.int x3), some (.int x4), some (.int x5)]) (pc := 68) dX7_hangs_68 rfl (Nat.le_of_ble_eq_true rfl) rfl ?_
          refine wq_iload_n (pc := 69) dX7_hangs_69 rfl rfl ?_
          refine wq_iconst (pc := 70) dX7_hangs_70 gsti1 ?_
          refine wq_iload (pc := 71) dX7_hangs_71 rfl ?_
          refine wq_ishl (pc := 73) dX7_hangs_73 ?_
          refine wq_iconst (pc := 74) dX7_hangs_74 gstim1 ?_
          refine wq_ixor (pc := 75) dX7_hangs_75 ?_
          refine wq_iand (pc := 76) dX7_hangs_76 ?_
          refine wq_istore_n (L' := [some (.ref x0), none, some (.int (x2 ||| y22)), some (.int (x3 &&& (((1 : Int32) <<< (x5 &&& 31)) ^^^ (-1 : Int32)))), some (.int x4), some (.int x5)]) (pc := 77) dX7_hangs_77 rfl (Nat.le_of_ble_eq_true rfl) rfl ?_
          refine wq_iconst (pc := 78) dX7_hangs_78 gsti1 ?_
          refine wq_istore (L' := [some (.ref x0), none, some (.int (x2 ||| y22)), some (.int (x3 &&& (((1 : Int32) <<< (x5 &&& 31)) ^^^ (-1 : Int32)))), some (.int (1 : Int32)), some (.int x5)]) (pc := 79) dX7_hangs_79 (Nat.le_of_ble_eq_true rfl) rfl ?_
          refine wq_iinc (L' := [some (.ref x0), none, some (.int (x2 ||| y22)), some (.int (x3 &&& (((1 : Int32) <<< (x5 &&& 31)) ^^^ (-1 : Int32)))), some (.int (1 : Int32)), some (.int (x5 + (1 : Int32)))]) (pc := 81) dX7_hangs_81 rfl (by rw [gsti1]) (Nat.le_of_ble_eq_true rfl) rfl ?_
          refine wq_goto (pc := 84) (tgt := 18) dX7_hangs_84 rfl ?_
          exact wq_T.less V ⟨rfl, ⟨rfl, ⟨rfl, ⟨rfl, ⟨rfl, trivial⟩⟩⟩⟩⟩
        rcases V with ⟨fs23, w24, V⟩ | ⟨fs23, w24, V⟩
        · exact clq1197_8 (pc := 64) (As := []) (st := [.int x2]) rfl dX7_hangs_64 rfl (Nat.le_of_ble_eq_true rfl) w24 V (fun C20 S21 => wx_ki (fun y22 h19 V => T C20 S21 y22 h19 V))
        · exact clq1197_9 (pc := 64) (As := []) (st := [.int x2]) rfl dX7_hangs_64 rfl (Nat.le_of_ble_eq_true rfl) w24 V (fun C20 S21 => wx_ki (fun y22 h19 V => T C20 S21 y22 h19 V))
      · have V := V.2 c
        refine wq_iload_n (pc := 40) dX7_hangs_40 rfl rfl ?_
        refine wq_aload_n (pc := 41) dX7_hangs_41 rfl rfl ?_
        refine wq_iload (pc := 42) dX7_hangs_42 rfl ?_
        obtain ⟨fs29, w30, V⟩ := V
        refine clq1082 (pc := 44) (As := [.int x5]) (st := [.int x2]) rfl dX7_hangs_44 rfl (Nat.le_of_ble_eq_true rfl) w30 V (fun C26 S27 => wx_kq (fun r28 h25 V => ?_))
        obtain ⟨a31, w32, V⟩ := V
        rw [w32]
        have T : ∀ C34 S35 y36 h33, ((¬ (x2 &&& y36) = 0 → ∃ fs43 : List Value, h33 x0 = some (.inr (6, fs43)) ∧ (wq_cq G l d C34 S35 mX7_set [.ref x0, .int x5] h33 (fun r42 h39 C40 S41 => ∃ a45, r42 = some a45 ∧ ((∃ fs51 : List Value, h39 a45 = some (.inr (8, fs51)) ∧ wq_ci G l d C40 S41 mX9_looks [.ref a45] h39 (fun y50 h47 C48 S49 => wq_T G l d mX7_hangs (wq_qi K) 18 [some (.ref x0), none, some (.int (x2 ||| y50)), some (.int (x3 &&& (((1 : Int32) <<< (x5 &&& 31)) ^^^ (-1 : Int32)))), some (.int (1 : Int32)), some (.int (x5 + (1 : Int32)))] [] h47 C48 S49)) ∨ (∃ fs51 : List Value, h39 a45 = some (.inr (9, fs51)) ∧ wq_ci G l d C40 S41 mX11_looks [.ref a45] h39 (fun y50 h47 C48 S49 => wq_T G l d mX7_hangs (wq_qi K) 18 [some (.ref x0), none, some (.int (x2 ||| y50)), some (.int (x3 &&& (((1 : Int32) <<< (x5 &&& 31)) ^^^ (-1 : Int32)))), some (.int (1 : Int32)), some (.int (x5 + (1 : Int32)))] [] h47 C48 S49)))))) ∧ ((x2 &&& y36) = 0 → wq_T G l d mX7_hangs (wq_qi K) 18 [some (.ref x0), none, some (.int x2), some (.int x3), some (.int x4), some (.int (x5 + (1 : Int32)))] [] h33 C34 S35)) → wq_T G l d mX7_hangs (wq_qi K) 50 [some (.ref x0), none, some (.int x2), some (.int x3), some (.int x4), some (.int x5)] [.int y36, .int x2] h33 C34 S35 := by
          intro C34 S35 y36 h33 V
          refine wq_iand (pc := 50) dX7_hangs_50 ?_
          refine wq_if_ne (pc := 51) (tgt := 57) dX7_hangs_51 rfl (fun c => ?_) (fun c => ?_)
          · have V := V.1 c
            refine wq_iload_n (pc := 57) dX7_hangs_57 rfl rfl ?_
            refine wq_aload_n (pc := 58) dX7_hangs_58 rfl rfl ?_
            refine wq_iload (pc := 59) dX7_hangs_59 rfl ?_
            obtain ⟨fs43, w44, V⟩ := V
            refine clq1082 (pc := 61) (As := [.int x5]) (st := [.int x2]) rfl dX7_hangs_61 rfl (Nat.le_of_ble_eq_true rfl) w44 V (fun C40 S41 => wx_kq (fun r42 h39 V => ?_))
            obtain ⟨a45, w46, V⟩ := V
            rw [w46]
            have T : ∀ C48 S49 y50 h47, (wq_T G l d mX7_hangs (wq_qi K) 18 [some (.ref x0), none, some (.int (x2 ||| y50)), some (.int (x3 &&& (((1 : Int32) <<< (x5 &&& 31)) ^^^ (-1 : Int32)))), some (.int (1 : Int32)), some (.int (x5 + (1 : Int32)))] [] h47 C48 S49) → wq_T G l d mX7_hangs (wq_qi K) 67 [some (.ref x0), none, some (.int x2), some (.int x3), some (.int x4), some (.int x5)] [.int y50, .int x2] h47 C48 S49 := by
              intro C48 S49 y50 h47 V
              refine wq_ior (pc := 67) dX7_hangs_67 ?_
              refine wq_istore_n (L' := [some (.ref x0), none, some (.int (x2 ||| y50)), some (.int x3), some (.int x4), some (.int x5)]) (pc := 68) dX7_hangs_68 rfl (Nat.le_of_ble_eq_true rfl) rfl ?_
              refine wq_iload_n (pc := 69) dX7_hangs_69 rfl rfl ?_
              refine wq_iconst (pc := 70) dX7_hangs_70 gsti1 ?_
              refine wq_iload (pc := 71) dX7_hangs_71 rfl ?_
              refine wq_ishl (pc := 73) dX7_hangs_73 ?_
              refine wq_iconst (pc := 74) dX7_hangs_74 gstim1 ?_
              refine wq_ixor (pc := 75) dX7_hangs_75 ?_
              refine wq_iand (pc := 76) dX7_hangs_76 ?_
              refine wq_istore_n (L' := [some (.ref x0), none, some (.int (x2 ||| y50)), some (.int (x3 &&& (((1 : Int32) <<< (x5 &&& 31)) ^^^ (-1 : Int32)))), some (.int x4), some (.int x5)]) (pc := 77) dX7_hangs_77 rfl (Nat.le_of_ble_eq_true rfl) rfl ?_
              refine wq_iconst (pc := 78) dX7_hangs_78 gsti1 ?_
              refine wq_istore (L' := [some (.ref x0), none, some (.int (x2 ||| y50)), some (.int (x3 &&& (((1 : Int32) <<< (x5 &&& 31)) ^^^ (-1 : Int32)))), some (.int (1 : Int32)), some (.int x5)]) (pc := 79) dX7_hangs_79 (Nat.le_of_ble_eq_true rfl) rfl ?_
              refine wq_iinc (L' := [some (.ref x0), none, some (.int (x2 ||| y50)), some (.int (x3 &&& (((1 : Int32) <<< (x5 &&& 31)) ^^^ (-1 : Int32)))), some (.int (1 : Int32)), some (.int (x5 + (1 : Int32)))]) (pc := 81) dX7_hangs_81 rfl (by rw [gsti1]) (Nat.le_of_ble_eq_true rfl) rfl ?_
              refine wq_goto (pc := 84) (tgt := 18) dX7_hangs_84 rfl ?_
              exact wq_T.less V ⟨rfl, ⟨rfl, ⟨rfl, ⟨rfl, ⟨rfl, trivial⟩⟩⟩⟩⟩
            rcases V with ⟨fs51, w52, V⟩ | ⟨fs51, w52, V⟩
            · exact clq1197_8 (pc := 64) (As := []) (st := [.int x2]) rfl dX7_hangs_64 rfl (Nat.le_of_ble_eq_true rfl) w52 V (fun C48 S49 => wx_ki (fun y50 h47 V => T C48 S49 y50 h47 V))
            · exact clq1197_9 (pc := 64) (As := []) (st := [.int x2]) rfl dX7_hangs_64 rfl (Nat.le_of_ble_eq_true rfl) w52 V (fun C48 S49 => wx_ki (fun y50 h47 V => T C48 S49 y50 h47 V))
          · have V := V.2 c
            refine wq_goto (pc := 54) (tgt := 81) dX7_hangs_54 rfl ?_
            refine wq_iinc (L' := [some (.ref x0), none, some (.int x2), some (.int x3), some (.int x4), some (.int (x5 + (1 : Int32)))]) (pc := 81) dX7_hangs_81 rfl (by rw [gsti1]) (Nat.le_of_ble_eq_true rfl) rfl ?_
            refine wq_goto (pc := 84) (tgt := 18) dX7_hangs_84 rfl ?_
            exact wq_T.less V ⟨rfl, ⟨rfl, ⟨rfl, ⟨rfl, ⟨rfl, trivial⟩⟩⟩⟩⟩
        rcases V with ⟨fs37, w38, V⟩ | ⟨fs37, w38, V⟩
        · exact clq1197_8 (pc := 47) (As := []) (st := [.int x2]) rfl dX7_hangs_47 rfl (Nat.le_of_ble_eq_true rfl) w38 V (fun C34 S35 => wx_ki (fun y36 h33 V => T C34 S35 y36 h33 V))
        · exact clq1197_9 (pc := 47) (As := []) (st := [.int x2]) rfl dX7_hangs_47 rfl (Nat.le_of_ble_eq_true rfl) w38 V (fun C34 S35 => wx_ki (fun y36 h33 V => T C34 S35 y36 h33 V))
theorem vX7_excess_0 {G : wq_G} {l : Launch} {d C S : Nat} {K : Int32 → wq_H → Prop} {x0 : Nat} {x1 : Int32} {x2 : Int32} {h : wq_H} (V : wq_T G l d mX7_excess (wq_qi K) 12 [some (.ref x0), some (.int x1), some (.int x2), some (.int (0 : Int32)), some (.int (2147483647 : Int32)), some (.int (0 : Int32)), some (.int (0 : Int32)), none] [] h C S) : wq_T G l d mX7_excess (wq_qi K) 0 [some (.ref x0), some (.int x1), some (.int x2), none, none, none, none, none] [] h C S := by
  refine wq_iconst (pc := 0) dX7_excess_0 gsti0 ?_
  refine wq_istore_n (L' := [some (.ref x0), some (.int x1), some (.int x2), some (.int (0 : Int32)), none, none, none, none]) (pc := 1) dX7_excess_1 rfl (Nat.le_of_ble_eq_true rfl) rfl ?_
  refine wq_ldc (pc := 2) (v := (2147483647 : Int32)) q1221 dX7_excess_2 ?_
  refine wq_istore (L' := [some (.ref x0), some (.int x1), some (.int x2), some (.int (0 : Int32)), some (.int (2147483647 : Int32)), none, none, none]) (pc := 4) dX7_excess_4 (Nat.le_of_ble_eq_true rfl) rfl ?_
  refine wq_iconst (pc := 6) dX7_excess_6 gsti0 ?_
  refine wq_istore (L' := [some (.ref x0), some (.int x1), some (.int x2), some (.int (0 : Int32)), some (.int (2147483647 : Int32)), some (.int (0 : Int32)), none, none]) (pc := 7) dX7_excess_7 (Nat.le_of_ble_eq_true rfl) rfl ?_
  refine wq_iconst (pc := 9) dX7_excess_9 gsti0 ?_
  refine wq_istore (L' := [some (.ref x0), some (.int x1), some (.int x2), some (.int (0 : Int32)), some (.int (2147483647 : Int32)), some (.int (0 : Int32)), some (.int (0 : Int32)), none]) (pc := 10) dX7_excess_10 (Nat.le_of_ble_eq_true rfl) rfl ?_
  exact wq_T.less V ⟨rfl, ⟨rfl, ⟨rfl, ⟨rfl, ⟨rfl, ⟨rfl, ⟨rfl, trivial⟩⟩⟩⟩⟩⟩⟩
theorem vX7_excess_12 {G : wq_G} {l : Launch} {d C S : Nat} {K : Int32 → wq_H → Prop} {x0 : Nat} {x1 : Int32} {x2 : Int32} {x3 : Int32} {x4 : Int32} {x5 : Int32} {x6 : Int32} {h : wq_H} (V : ∃ fs5 : List Value, h x0 = some (.inr (6, fs5)) ∧ (wq_ci G l d C S mX7_size [.ref x0] h (fun y4 h1 C2 S3 => (y4 ≤ x6 → (¬ (x5 - x5 / (2 : Int32) * (2 : Int32)) = (1 : Int32) → wq_ci G l d C2 S3 mX1_bits [.int x1] h1 (fun y10 h7 C8 S9 => K ((x3 - ((2 : Int32) * x4)) - (x2 * (y10 - (2 : Int32)))) h7)) ∧ ((x5 - x5 / (2 : Int32) * (2 : Int32)) = (1 : Int32) → wq_ci G l d C2 S3 mX1_bits [.int x1] h1 (fun y14 h11 C12 S13 => K ((x3 - (0 : Int32)) - (x2 * (y14 - (2 : Int32)))) h11))) ∧ (¬ y4 ≤ x6 → wq_ci G l d C2 S3 mX1_has [.int x1, .int x6] h1 (fun y18 h15 C16 S17 => (¬ y18 = 0 → ∃ fs23 : List Value, h15 x0 = some (.inr (6, fs23)) ∧ (wq_cq G l d C16 S17 mX7_set [.ref x0, .int x6] h15 (fun r22 h19 C20 S21 => ∃ a25, r22 = some a25 ∧ ((∃ fs31 : List Value, h19 a25 = some (.inr (8, fs31)) ∧ wq_ci G l d C20 S21 mX9_same [.ref a25] h19 (fun y30 h27 C28 S29 => wq_ci G l d C28 S29 mJ8_abs [.int y30] h27 (fun y36 h33 C34 S35 => wq_ci G l d C34 S35 mJ8_abs [.int y30] h33 (fun y40 h37 C38 S39 => wq_ci G l d C38 S39 mJ8_min [.int x4, .int y40] h37 (fun y44 h41 C42 S43 => (0 ≤ y30 → wq_T G l d mX7_excess (wq_qi K) 12 [some (.ref x0), some (.int x1), some (.int x2), some (.int (x3 + y36)), some (.int y44), some (.int (x5 + (0 : Int32))), some (.int (x6 + (1 : Int32))), none] [] h41 C42 S43) ∧ (¬ 0 ≤ y30 → wq_T G l d mX7_excess (wq_qi K) 12 [some (.ref x0), some (.int x1), some (.int x2), some (.int (x3 + y36)), some (.int y44), some (.int (x5 + (1 : Int32))), some (.int (x6 + (1 : Int32))), none] [] h41 C42 S43)))))) ∨ (∃ fs31 : List Value, h19 a25 = some (.inr (9, fs31)) ∧ wq_ci G l d C20 S21 mX11_same [.ref a25] h19 (fun y30 h27 C28 S29 => wq_ci G l d C28 S29 mJ8_abs [.int y30] h27 (fun y36 h33 C34 S35 => wq_ci G l d C34 S35 mJ8_abs [.int y30] h33 (fun y40 h37 C38 S39 => wq_ci G l d C38 S39 mJ8_min [.int x4, .int y40] h37 (fun y44 h41 C42 S43 => (0 ≤ y30 → wq_T G l d mX7_excess (wq_qi K) 12 [some (.ref x0), some (.int x1), some (.int x2), some (.int (x3 + y36)), some (.int y44), some (.int (x5 + (0 : Int32))), some (.int (x6 + (1 : Int32))), none] [] h41 C42 S43) ∧ (¬ 0 ≤ y30 → wq_T G l d mX7_excess (wq_qi K) 12 [some (.ref x0), some (.int x1), some (.int x2), some (.int (x3 + y36)), some (.int y44), some (.int (x5 + (1 : Int32))), some (.int (x6 + (1 : Int32))), none] [] h41 C42 S43)))))))))) ∧ (y18 = 0 → wq_T G l d mX7_excess (wq_qi K) 12 [some (.ref x0), some (.int x1), some (.int x2), some (.int x3), some (.int x4), some (.int x5), some (.int (x6 + (1 : Int32))), none] [] h15 C16 S17)))))) : wq_T G l d mX7_excess (wq_qi K) 12 [some (.ref x0), some (.int x1), some (.int x2), some (.int x3), some (.int x4), some (.int x5), some (.int x6), none] [] h C S := by
  refine wq_iload (pc := 12) dX7_excess_12 rfl ?_
  refine wq_aload_n (pc := 14) dX7_excess_14 rfl rfl ?_
  obtain ⟨fs5, w6, V⟩ := V
  refine clq1080 (pc := 15) (As := []) (st := [.int x6]) rfl dX7_excess_15 rfl (Nat.le_of_ble_eq_true rfl) w6 V (fun C2 S3 => wx_ki (fun y4 h1 V => ?_))
  refine wq_icmp_ge (pc := 18) (tgt := 85) dX7_excess_18 rfl (fun c => ?_) (fun c => ?_)
  · have V := V.1 c
    refine wq_iload_n (pc := 85) dX7_excess_85 rfl rfl ?_
    refine wq_iload (pc := 86) dX7_excess_86 rfl ?_
    refine wq_iconst (pc := 88) dX7_excess_88 gsti2 ?_
    refine wq_irem (pc := 89) dX7_excess_89 (by decide) ?_
    refine wq_iconst (pc := 90) dX7_excess_90 gsti1 ?_
    refine wq_icmp_ne (pc := 91) (tgt := 98) dX7_excess_91 rfl (fun c => ?_) (fun c => ?_)
    · have V := V.1 c
      refine wq_iconst (pc := 98) dX7_excess_98 gsti2 ?_
      refine wq_iload (pc := 99) dX7_excess_99 rfl ?_
      refine wq_imul (pc := 101) dX7_excess_101 ?_
      refine wq_isub (pc := 102) dX7_excess_102 ?_
      refine wq_iload_n (pc := 103) dX7_excess_103 rfl rfl ?_
      refine wq_iload_n (pc := 104) dX7_excess_104 rfl rfl ?_
      refine clq1193 (pc := 105) (As := [.int x1]) (st := [.int x2, .int (x3 - ((2 : Int32) * x4))]) rfl dX7_excess_105 rfl (Nat.le_of_ble_eq_true rfl) V (fun C8 S9 => wx_ki (fun y10 h7 V => ?_))
      refine wq_iconst (pc := 108) dX7_excess_108 gsti2 ?_
      refine wq_isub (pc := 109) dX7_excess_109 ?_
      refine wq_imul (pc := 110) dX7_excess_110 ?_
      refine wq_isub (pc := 111) dX7_excess_111 ?_
      refine wq_iret (pc := 112) dX7_excess_112 rfl ⟨_, rfl, V⟩
    · have V := V.2 c
      refine wq_iconst (pc := 94) dX7_excess_94 gsti0 ?_
      refine wq_goto (pc := 95) (tgt := 102) dX7_excess_95 rfl ?_
      refine wq_isub (pc := 102) dX7_excess_102 ?_
      refine wq_iload_n (pc := 103) dX7_excess_103 rfl rfl ?_
      refine wq_iload_n (pc := 104) dX7_excess_104 rfl rfl ?_
      refine clq1193 (pc := 105) (As := [.int x1]) (st := [.int x2, .int (x3 - (0 : Int32))]) rfl dX7_excess_105 rfl (Nat.le_of_ble_eq_true rfl) V (fun C12 S13 => wx_ki (fun y14 h11 V => ?_))
      refine wq_iconst (pc := 108) dX7_excess_108 gsti2 ?_
      refine wq_isub (pc := 109) dX7_excess_109 ?_
      refine wq_imul (pc := 110) dX7_excess_110 ?_
      refine wq_isub (pc := 111) dX7_excess_111 ?_
      refine wq_iret (pc := 112) dX7_excess_112 rfl ⟨_, rfl, V⟩
  · have V := V.2 c
    refine wq_iload_n (pc := 21) dX7_excess_21 rfl rfl ?_
    refine wq_iload (pc := 22) dX7_excess_22 rfl ?_
    refine clq1196 (pc := 24) (As := [.int x1, .int x6]) (st := []) rfl dX7_excess_24 rfl (Nat.le_of_ble_eq_true rfl) V (fun C16 S17 => wx_ki (fun y18 h15 V => ?_))
    refine wq_if_ne (pc := 27) (tgt := 33) dX7_excess_27 rfl (fun c => ?_) (fun c => ?_)
    · have V := V.1 c
      refine wq_aload_n (pc := 33) dX7_excess_33 rfl rfl ?_
      refine wq_iload (pc := 34) dX7_excess_34 rfl ?_
      obtain ⟨fs23, w24, V⟩ := V
      refine clq1082 (pc := 36) (As := [.int x6]) (st := []) rfl dX7_excess_36 rfl (Nat.le_of_ble_eq_true rfl) w24 V (fun C20 S21 => wx_kq (fun r22 h19 V => ?_))
      obtain ⟨a25, w26, V⟩ := V
      rw [w26]
      have T : ∀ C28 S29 y30 h27, (wq_ci G l d C28 S29 mJ8_abs [.int y30] h27 (fun y36 h33 C34 S35 => wq_ci G l d C34 S35 mJ8_abs [.int y30] h33 (fun y40 h37 C38 S39 => wq_ci G l d C38 S39 mJ8_min [.int x4, .int y40] h37 (fun y44 h41 C42 S43 => (0 ≤ y30 → wq_T G l d mX7_excess (wq_qi K) 12 [some (.ref x0), some (.int x1), some (.int x2), some (.int (x3 + y36)), some (.int y44), some (.int (x5 + (0 : Int32))), some (.int (x6 + (1 : Int32))), none] [] h41 C42 S43) ∧ (¬ 0 ≤ y30 → wq_T G l d mX7_excess (wq_qi K) 12 [some (.ref x0), some (.int x1), some (.int x2), some (.int (x3 + y36)), some (.int y44), some (.int (x5 + (1 : Int32))), some (.int (x6 + (1 : Int32))), none] [] h41 C42 S43))))) → wq_T G l d mX7_excess (wq_qi K) 42 [some (.ref x0), some (.int x1), some (.int x2), some (.int x3), some (.int x4), some (.int x5), some (.int x6), none] [.int y30] h27 C28 S29 := by
        intro C28 S29 y30 h27 V
        refine wq_istore (L' := [some (.ref x0), some (.int x1), some (.int x2), some (.int x3), some (.int x4), some (.int x5), some (.int x6), some (.int y30)]) (pc := 42) dX7_excess_42 (Nat.le_of_ble_eq_true rfl) rfl ?_
        refine wq_iload_n (pc := 44) dX7_excess_44 rfl rfl ?_
        refine wq_iload (pc := 45) dX7_excess_45 rfl ?_
        refine clq1223 (pc := 47) (As := [.int y30]) (st := [.int x3]) rfl dX7_excess_47 rfl (Nat.le_of_ble_eq_true rfl) V (fun C34 S35 => wx_ki (fun y36 h33 V => ?_))
        refine wq_iadd (pc := 50) dX7_excess_50 ?_
        refine wq_istore_n (L' := [some (.ref x0), some (.int x1), some (.int x2), some (.int (x3 + y36)), some (.int x4), some (.int x5), some (.int x6), some (.int y30)]) (pc := 51) dX7_excess_51 rfl (Nat.le_of_ble_eq_true rfl) rfl ?_
        refine wq_iload (pc := 52) dX7_excess_52 rfl ?_
        refine wq_iload (pc := 54) dX7_excess_54 rfl ?_
        refine clq1223 (pc := 56) (As := [.int y30]) (st := [.int x4]) rfl dX7_excess_56 rfl (Nat.le_of_ble_eq_true rfl) V (fun C38 S39 => wx_ki (fun y40 h37 V => ?_))
        refine clq1226 (pc := 59) (As := [.int x4, .int y40]) (st := []) rfl dX7_excess_59 rfl (Nat.le_of_ble_eq_true rfl) V (fun C42 S43 => wx_ki (fun y44 h41 V => ?_))
        refine wq_istore (L' := [some (.ref x0), some (.int x1), some (.int x2), some (.int (x3 + y36)), some (.int y44), some (.int x5), some (.int x6), some (.int y30)]) (pc := 62) dX7_excess_62 (Nat.le_of_ble_eq_true rfl) rfl ?_
        refine wq_iload (pc := 64) dX7_excess_64 rfl ?_
        refine wq_iload (pc := 66) dX7_excess_66 rfl ?_
        refine wq_if_ge (pc := 68) (tgt := 75) dX7_excess_68 rfl (fun c => ?_) (fun c => ?_)
        · have V := V.1 c
          refine wq_iconst (pc := 75) dX7_excess_75 gsti0 ?_
          refine wq_iadd (pc := 76) dX7_excess_76 ?_
          refine wq_istore (L' := [some (.ref x0), some (.int x1), some (.int x2), some (.int (x3 + y36)), some (.int y44), some (.int (x5 + (0 : Int32))), some (.int x6), some (.int y30)]) (pc := 77) dX7_excess_77 (Nat.le_of_ble_eq_true rfl) rfl ?_
          refine wq_iinc (L' := [some (.ref x0), some (.int x1), some (.int x2), some (.int (x3 + y36)), some (.int y44), some (.int (x5 + (0 : Int32))), some (.int (x6 + (1 : Int32))), some (.int y30)]) (pc := 79) dX7_excess_79 rfl (by rw [gsti1]) (Nat.le_of_ble_eq_true rfl) rfl ?_
          refine wq_goto (pc := 82) (tgt := 12) dX7_excess_82 rfl ?_
          exact wq_T.less V ⟨rfl, ⟨rfl, ⟨rfl, ⟨rfl, ⟨rfl, ⟨rfl, ⟨rfl, trivial⟩⟩⟩⟩⟩⟩⟩
        · have V := V.2 c
          refine wq_iconst (pc := 71) dX7_excess_71 gsti1 ?_
          refine wq_goto (pc := 72) (tgt := 76) dX7_excess_72 rfl ?_
          refine wq_iadd (pc := 76) dX7_excess_76 ?_
          refine wq_istore (L' := [some (.ref x0), some (.int x1), some (.int x2), some (.int (x3 + y36)), some (.int y44), some (.int (x5 + (1 : Int32))), some (.int x6), some (.int y30)]) (pc := 77) dX7_excess_77 (Nat.le_of_ble_eq_true rfl) rfl ?_
          refine wq_iinc (L' := [some (.ref x0), some (.int x1), some (.int x2), some (.int (x3 + y36)), some (.int y44), some (.int (x5 + (1 : Int32))), some (.int (x6 + (1 : Int32))), some (.int y30)]) (pc := 79) dX7_excess_79 rfl (by rw [gsti1]) (Nat.le_of_ble_eq_true rfl) rfl ?_
          refine wq_goto (pc := 82) (tgt := 12) dX7_excess_82 rfl ?_
          exact wq_T.less V ⟨rfl, ⟨rfl, ⟨rfl, ⟨rfl, ⟨rfl, ⟨rfl, ⟨rfl, trivial⟩⟩⟩⟩⟩⟩⟩
      rcases V with ⟨fs31, w32, V⟩ | ⟨fs31, w32, V⟩
      · exact clq1222_8 (pc := 39) (As := []) (st := []) rfl dX7_excess_39 rfl (Nat.le_of_ble_eq_true rfl) w32 V (fun C28 S29 => wx_ki (fun y30 h27 V => T C28 S29 y30 h27 V))
      · exact clq1222_9 (pc := 39) (As := []) (st := []) rfl dX7_excess_39 rfl (Nat.le_of_ble_eq_true rfl) w32 V (fun C28 S29 => wx_ki (fun y30 h27 V => T C28 S29 y30 h27 V))
    · have V := V.2 c
      refine wq_goto (pc := 30) (tgt := 79) dX7_excess_30 rfl ?_
      refine wq_iinc (L' := [some (.ref x0), some (.int x1), some (.int x2), some (.int x3), some (.int x4), some (.int x5), some (.int (x6 + (1 : Int32))), none]) (pc := 79) dX7_excess_79 rfl (by rw [gsti1]) (Nat.le_of_ble_eq_true rfl) rfl ?_
      refine wq_goto (pc := 82) (tgt := 12) dX7_excess_82 rfl ?_
      exact wq_T.less V ⟨rfl, ⟨rfl, ⟨rfl, ⟨rfl, ⟨rfl, ⟨rfl, ⟨rfl, trivial⟩⟩⟩⟩⟩⟩⟩
theorem vX7_wins_0 {G : wq_G} {l : Launch} {d C S : Nat} {K : Int32 → wq_H → Prop} {x0 : Nat} {h : wq_H} (V : wq_T G l d mX7_wins (wq_qi K) 4 [some (.ref x0), some (.int (0 : Int32)), some (.int (0 : Int32)), none] [] h C S) : wq_T G l d mX7_wins (wq_qi K) 0 [some (.ref x0), none, none, none] [] h C S := by
  refine wq_iconst (pc := 0) dX7_wins_0 gsti0 ?_
  refine wq_istore_n (L' := [some (.ref x0), some (.int (0 : Int32)), none, none]) (pc := 1) dX7_wins_1 rfl (Nat.le_of_ble_eq_true rfl) rfl ?_
  refine wq_iconst (pc := 2) dX7_wins_2 gsti0 ?_
  refine wq_istore_n (L' := [some (.ref x0), some (.int (0 : Int32)), some (.int (0 : Int32)), none]) (pc := 3) dX7_wins_3 rfl (Nat.le_of_ble_eq_true rfl) rfl ?_
  exact wq_T.less V ⟨rfl, ⟨rfl, ⟨rfl, trivial⟩⟩⟩
theorem vX7_wins_4 {G : wq_G} {l : Launch} {d C S : Nat} {K : Int32 → wq_H → Prop} {x0 : Nat} {x1 : Int32} {x2 : Int32} {h : wq_H} (V : ∃ fs5 : List Value, h x0 = some (.inr (6, fs5)) ∧ (wq_ci G l d C S mX7_size [.ref x0] h (fun y4 h1 C2 S3 => (y4 ≤ x2 → K x1 h1) ∧ (¬ y4 ≤ x2 → wq_T G l d mX7_wins (wq_qi K) 14 [some (.ref x0), some (.int x1), some (.int x2), some (.int (0 : Int32))] [] h1 C2 S3)))) : wq_T G l d mX7_wins (wq_qi K) 4 [some (.ref x0), some (.int x1), some (.int x2), none] [] h C S := by
  refine wq_iload_n (pc := 4) dX7_wins_4 rfl rfl ?_
  refine wq_aload_n (pc := 5) dX7_wins_5 rfl rfl ?_
  obtain ⟨fs5, w6, V⟩ := V
  refine clq1080 (pc := 6) (As := []) (st := [.int x2]) rfl dX7_wins_6 rfl (Nat.le_of_ble_eq_true rfl) w6 V (fun C2 S3 => wx_ki (fun y4 h1 V => ?_))
  refine wq_icmp_ge (pc := 9) (tgt := 62) dX7_wins_9 rfl (fun c => ?_) (fun c => ?_)
  · have V := V.1 c
    refine wq_iload_n (pc := 62) dX7_wins_62 rfl rfl ?_
    refine wq_iret (pc := 63) dX7_wins_63 rfl ⟨_, rfl, V⟩
  · have V := V.2 c
    refine wq_iconst (pc := 12) dX7_wins_12 gsti0 ?_
    refine wq_istore_n (L' := [some (.ref x0), some (.int x1), some (.int x2), some (.int (0 : Int32))]) (pc := 13) dX7_wins_13 rfl (Nat.le_of_ble_eq_true rfl) rfl ?_
    exact wq_T.less V ⟨rfl, ⟨rfl, ⟨rfl, ⟨rfl, trivial⟩⟩⟩⟩
theorem vX7_wins_14 {G : wq_G} {l : Launch} {d C S : Nat} {K : Int32 → wq_H → Prop} {x0 : Nat} {x1 : Int32} {x2 : Int32} {x3 : Int32} {h : wq_H} (V : ∃ fs5 : List Value, h x0 = some (.inr (6, fs5)) ∧ (wq_cq G l d C S mX7_set [.ref x0, .int x2] h (fun r4 h1 C2 S3 => ∃ a7, r4 = some a7 ∧ ((∃ fs13 : List Value, h1 a7 = some (.inr (8, fs13)) ∧ wq_ci G l d C2 S3 mX10_outcomes [.ref a7] h1 (fun y12 h9 C10 S11 => (y12 ≤ x3 → wq_T G l d mX7_wins (wq_qi K) 4 [some (.ref x0), some (.int x1), some (.int (x2 + (1 : Int32))), none] [] h9 C10 S11) ∧ (¬ y12 ≤ x3 → ∃ fs19 : List Value, h9 x0 = some (.inr (6, fs19)) ∧ (wq_cq G l d C10 S11 mX7_set [.ref x0, .int x2] h9 (fun r18 h15 C16 S17 => ∃ a21, r18 = some a21 ∧ (wq_gR h15 a21 [(8, 1), (9, 1)] (fun a23 => wq_ai G h15 a23 x3 (fun y24 => ∃ fs29 : List Value, h15 x0 = some (.inr (6, fs29)) ∧ (wq_cq G l d C16 S17 mX7_set [.ref x0, .int x2] h15 (fun r28 h25 C26 S27 => ∃ a31, r28 = some a31 ∧ (wq_gR h25 a31 [(8, 0), (9, 0)] (fun a33 => wq_ai G h25 a33 x3 (fun y34 => wq_T G l d mX7_wins (wq_qi K) 14 [some (.ref x0), some (.int (x1 + (y24 * y34))), some (.int x2), some (.int (x3 + (1 : Int32)))] [] h25 C26 S27))))))))))))) ∨ (∃ fs13 : List Value, h1 a7 = some (.inr (9, fs13)) ∧ wq_ci G l d C2 S3 mX11_outcomes [.ref a7] h1 (fun y12 h9 C10 S11 => (y12 ≤ x3 → wq_T G l d mX7_wins (wq_qi K) 4 [some (.ref x0), some (.int x1), some (.int (x2 + (1 : Int32))), none] [] h9 C10 S11) ∧ (¬ y12 ≤ x3 → ∃ fs19 : List Value, h9 x0 = some (.inr (6, fs19)) ∧ (wq_cq G l d C10 S11 mX7_set [.ref x0, .int x2] h9 (fun r18 h15 C16 S17 => ∃ a21, r18 = some a21 ∧ (wq_gR h15 a21 [(8, 1), (9, 1)] (fun a23 => wq_ai G h15 a23 x3 (fun y24 => ∃ fs29 : List Value, h15 x0 = some (.inr (6, fs29)) ∧ (wq_cq G l d C16 S17 mX7_set [.ref x0, .int x2] h15 (fun r28 h25 C26 S27 => ∃ a31, r28 = some a31 ∧ (wq_gR h25 a31 [(8, 0), (9, 0)] (fun a33 => wq_ai G h25 a33 x3 (fun y34 => wq_T G l d mX7_wins (wq_qi K) 14 [some (.ref x0), some (.int (x1 + (y24 * y34))), some (.int x2), some (.int (x3 + (1 : Int32)))] [] h25 C26 S27))))))))))))))))) : wq_T G l d mX7_wins (wq_qi K) 14 [some (.ref x0), some (.int x1), some (.int x2), some (.int x3)] [] h C S := by
  refine wq_iload_n (pc := 14) dX7_wins_14 rfl rfl ?_
  refine wq_aload_n (pc := 15) dX7_wins_15 rfl rfl ?_
  refine wq_iload_n (pc := 16) dX7_wins_16 rfl rfl ?_
  obtain ⟨fs5, w6, V⟩ := V
  refine clq1082 (pc := 17) (As := [.int x2]) (st := [.int x3]) rfl dX7_wins_17 rfl (Nat.le_of_ble_eq_true rfl) w6 V (fun C2 S3 => wx_kq (fun r4 h1 V => ?_))
  obtain ⟨a7, w8, V⟩ := V
  rw [w8]
  have T : ∀ C10 S11 y12 h9, ((y12 ≤ x3 → wq_T G l d mX7_wins (wq_qi K) 4 [some (.ref x0), some (.int x1), some (.int (x2 + (1 : Int32))), none] [] h9 C10 S11) ∧ (¬ y12 ≤ x3 → ∃ fs19 : List Value, h9 x0 = some (.inr (6, fs19)) ∧ (wq_cq G l d C10 S11 mX7_set [.ref x0, .int x2] h9 (fun r18 h15 C16 S17 => ∃ a21, r18 = some a21 ∧ (wq_gR h15 a21 [(8, 1), (9, 1)] (fun a23 => wq_ai G h15 a23 x3 (fun y24 => ∃ fs29 : List Value, h15 x0 = some (.inr (6, fs29)) ∧ (wq_cq G l d C16 S17 mX7_set [.ref x0, .int x2] h15 (fun r28 h25 C26 S27 => ∃ a31, r28 = some a31 ∧ (wq_gR h25 a31 [(8, 0), (9, 0)] (fun a33 => wq_ai G h25 a33 x3 (fun y34 => wq_T G l d mX7_wins (wq_qi K) 14 [some (.ref x0), some (.int (x1 + (y24 * y34))), some (.int x2), some (.int (x3 + (1 : Int32)))] [] h25 C26 S27)))))))))))) → wq_T G l d mX7_wins (wq_qi K) 23 [some (.ref x0), some (.int x1), some (.int x2), some (.int x3)] [.int y12, .int x3] h9 C10 S11 := by
    intro C10 S11 y12 h9 V
    refine wq_icmp_ge (pc := 23) (tgt := 56) dX7_wins_23 rfl (fun c => ?_) (fun c => ?_)
    · have V := V.1 c
      refine wq_iinc (L' := [some (.ref x0), some (.int x1), some (.int (x2 + (1 : Int32))), some (.int x3)]) (pc := 56) dX7_wins_56 rfl (by rw [gsti1]) (Nat.le_of_ble_eq_true rfl) rfl ?_
      refine wq_goto (pc := 59) (tgt := 4) dX7_wins_59 rfl ?_
      exact wq_T.less V ⟨rfl, ⟨rfl, ⟨rfl, trivial⟩⟩⟩
    · have V := V.2 c
      refine wq_iload_n (pc := 26) dX7_wins_26 rfl rfl ?_
      refine wq_aload_n (pc := 27) dX7_wins_27 rfl rfl ?_
      refine wq_iload_n (pc := 28) dX7_wins_28 rfl rfl ?_
      obtain ⟨fs19, w20, V⟩ := V
      refine clq1082 (pc := 29) (As := [.int x2]) (st := [.int x1]) rfl dX7_wins_29 rfl (Nat.le_of_ble_eq_true rfl) w20 V (fun C16 S17 => wx_kq (fun r18 h15 V => ?_))
      obtain ⟨a21, w22, V⟩ := V
      rw [w22]
      refine gfq842 (pc := 32) rfl dX7_wins_32 V (fun a23 V => ?_)
      refine wq_iload_n (pc := 35) dX7_wins_35 rfl rfl ?_
      refine wx_ai (pc := 36) dX7_wins_36 V (fun y24 V => ?_)
      refine wq_aload_n (pc := 37) dX7_wins_37 rfl rfl ?_
      refine wq_iload_n (pc := 38) dX7_wins_38 rfl rfl ?_
      obtain ⟨fs29, w30, V⟩ := V
      refine clq1082 (pc := 39) (As := [.int x2]) (st := [.int y24, .int x1]) rfl dX7_wins_39 rfl (Nat.le_of_ble_eq_true rfl) w30 V (fun C26 S27 => wx_kq (fun r28 h25 V => ?_))
      obtain ⟨a31, w32, V⟩ := V
      rw [w32]
      refine gfq838 (pc := 42) rfl dX7_wins_42 V (fun a33 V => ?_)
      refine wq_iload_n (pc := 45) dX7_wins_45 rfl rfl ?_
      refine wx_ai (pc := 46) dX7_wins_46 V (fun y34 V => ?_)
      refine wq_imul (pc := 47) dX7_wins_47 ?_
      refine wq_iadd (pc := 48) dX7_wins_48 ?_
      refine wq_istore_n (L' := [some (.ref x0), some (.int (x1 + (y24 * y34))), some (.int x2), some (.int x3)]) (pc := 49) dX7_wins_49 rfl (Nat.le_of_ble_eq_true rfl) rfl ?_
      refine wq_iinc (L' := [some (.ref x0), some (.int (x1 + (y24 * y34))), some (.int x2), some (.int (x3 + (1 : Int32)))]) (pc := 50) dX7_wins_50 rfl (by rw [gsti1]) (Nat.le_of_ble_eq_true rfl) rfl ?_
      refine wq_goto (pc := 53) (tgt := 14) dX7_wins_53 rfl ?_
      exact wq_T.less V ⟨rfl, ⟨rfl, ⟨rfl, ⟨rfl, trivial⟩⟩⟩⟩
  rcases V with ⟨fs13, w14, V⟩ | ⟨fs13, w14, V⟩
  · exact clq1083_8 (pc := 20) (As := []) (st := [.int x3]) rfl dX7_wins_20 rfl (Nat.le_of_ble_eq_true rfl) w14 V (fun C10 S11 => wx_ki (fun y12 h9 V => T C10 S11 y12 h9 V))
  · exact clq1083_9 (pc := 20) (As := []) (st := [.int x3]) rfl dX7_wins_20 rfl (Nat.le_of_ble_eq_true rfl) w14 V (fun C10 S11 => wx_ki (fun y12 h9 V => T C10 S11 y12 h9 V))
theorem vX7_pays_0 {G : wq_G} {l : Launch} {d C S : Nat} {K : Int32 → wq_H → Prop} {x0 : Nat} {x1 : Int32} {h : wq_H} (V : wq_T G l d mX7_pays (wq_qi K) 4 [some (.ref x0), some (.int x1), some (.int (0 : Int32)), some (.int (0 : Int32))] [] h C S) : wq_T G l d mX7_pays (wq_qi K) 0 [some (.ref x0), some (.int x1), none, none] [] h C S := by
  refine wq_iconst (pc := 0) dX7_pays_0 gsti0 ?_
  refine wq_istore_n (L' := [some (.ref x0), some (.int x1), some (.int (0 : Int32)), none]) (pc := 1) dX7_pays_1 rfl (Nat.le_of_ble_eq_true rfl) rfl ?_
  refine wq_iconst (pc := 2) dX7_pays_2 gsti0 ?_
  refine wq_istore_n (L' := [some (.ref x0), some (.int x1), some (.int (0 : Int32)), some (.int (0 : Int32))]) (pc := 3) dX7_pays_3 rfl (Nat.le_of_ble_eq_true rfl) rfl ?_
  exact wq_T.less V ⟨rfl, ⟨rfl, ⟨rfl, ⟨rfl, trivial⟩⟩⟩⟩
theorem vX7_pays_4 {G : wq_G} {l : Launch} {d C S : Nat} {K : Int32 → wq_H → Prop} {x0 : Nat} {x1 : Int32} {x2 : Int32} {x3 : Int32} {h : wq_H} (V : ∃ fs5 : List Value, h x0 = some (.inr (6, fs5)) ∧ (wq_ci G l d C S mX7_size [.ref x0] h (fun y4 h1 C2 S3 => (y4 ≤ x3 → K x2 h1) ∧ (¬ y4 ≤ x3 → ∃ fs11 : List Value, h1 x0 = some (.inr (6, fs11)) ∧ (wq_cq G l d C2 S3 mX7_set [.ref x0, .int x3] h1 (fun r10 h7 C8 S9 => ∃ a13, r10 = some a13 ∧ (wq_gR h7 a13 [(8, 1), (9, 1)] (fun a15 => ∃ fs20 : List Value, h7 x0 = some (.inr (6, fs20)) ∧ (wq_cq G l d C8 S9 mX7_set [.ref x0, .int x3] h7 (fun r19 h16 C17 S18 => ∃ a22, r19 = some a22 ∧ ((∃ fs28 : List Value, h16 a22 = some (.inr (8, fs28)) ∧ wq_ci G l d C17 S18 mX10_outcome [.ref a22, .int x1] h16 (fun y27 h24 C25 S26 => wq_ai G h24 a15 y27 (fun y30 => wq_T G l d mX7_pays (wq_qi K) 4 [some (.ref x0), some (.int x1), some (.int (x2 + y30)), some (.int (x3 + (1 : Int32)))] [] h24 C25 S26))) ∨ (∃ fs28 : List Value, h16 a22 = some (.inr (9, fs28)) ∧ wq_ci G l d C17 S18 mX11_outcome [.ref a22, .int x1] h16 (fun y27 h24 C25 S26 => wq_ai G h24 a15 y27 (fun y30 => wq_T G l d mX7_pays (wq_qi K) 4 [some (.ref x0), some (.int x1), some (.int (x2 + y30)), some (.int (x3 + (1 : Int32)))] [] h24 C25 S26)))))))))))))) : wq_T G l d mX7_pays (wq_qi K) 4 [some (.ref x0), some (.int x1), some (.int x2), some (.int x3)] [] h C S := by
  refine wq_iload_n (pc := 4) dX7_pays_4 rfl rfl ?_
  refine wq_aload_n (pc := 5) dX7_pays_5 rfl rfl ?_
  obtain ⟨fs5, w6, V⟩ := V
  refine clq1080 (pc := 6) (As := []) (st := [.int x3]) rfl dX7_pays_6 rfl (Nat.le_of_ble_eq_true rfl) w6 V (fun C2 S3 => wx_ki (fun y4 h1 V => ?_))
  refine wq_icmp_ge (pc := 9) (tgt := 39) dX7_pays_9 rfl (fun c => ?_) (fun c => ?_)
  · have V := V.1 c
    refine wq_iload_n (pc := 39) dX7_pays_39 rfl rfl ?_
    refine wq_iret (pc := 40) dX7_pays_40 rfl ⟨_, rfl, V⟩
  · have V := V.2 c
    refine wq_iload_n (pc := 12) dX7_pays_12 rfl rfl ?_
    refine wq_aload_n (pc := 13) dX7_pays_13 rfl rfl ?_
    refine wq_iload_n (pc := 14) dX7_pays_14 rfl rfl ?_
    obtain ⟨fs11, w12, V⟩ := V
    refine clq1082 (pc := 15) (As := [.int x3]) (st := [.int x2]) rfl dX7_pays_15 rfl (Nat.le_of_ble_eq_true rfl) w12 V (fun C8 S9 => wx_kq (fun r10 h7 V => ?_))
    obtain ⟨a13, w14, V⟩ := V
    rw [w14]
    refine gfq842 (pc := 18) rfl dX7_pays_18 V (fun a15 V => ?_)
    refine wq_aload_n (pc := 21) dX7_pays_21 rfl rfl ?_
    refine wq_iload_n (pc := 22) dX7_pays_22 rfl rfl ?_
    obtain ⟨fs20, w21, V⟩ := V
    refine clq1082 (pc := 23) (As := [.int x3]) (st := [.ref a15, .int x2]) rfl dX7_pays_23 rfl (Nat.le_of_ble_eq_true rfl) w21 V (fun C17 S18 => wx_kq (fun r19 h16 V => ?_))
    refine wq_iload_n (pc := 26) dX7_pays_26 rfl rfl ?_
    obtain ⟨a22, w23, V⟩ := V
    rw [w23]
    have T : ∀ C25 S26 y27 h24, (wq_ai G h24 a15 y27 (fun y30 => wq_T G l d mX7_pays (wq_qi K) 4 [some (.ref x0), some (.int x1), some (.int (x2 + y30)), some (.int (x3 + (1 : Int32)))] [] h24 C25 S26)) → wq_T G l d mX7_pays (wq_qi K) 30 [some (.ref x0), some (.int x1), some (.int x2), some (.int x3)] [.int y27, .ref a15, .int x2] h24 C25 S26 := by
      intro C25 S26 y27 h24 V
      refine wx_ai (pc := 30) dX7_pays_30 V (fun y30 V => ?_)
      refine wq_iadd (pc := 31) dX7_pays_31 ?_
      refine wq_istore_n (L' := [some (.ref x0), some (.int x1), some (.int (x2 + y30)), some (.int x3)]) (pc := 32) dX7_pays_32 rfl (Nat.le_of_ble_eq_true rfl) rfl ?_
      refine wq_iinc (L' := [some (.ref x0), some (.int x1), some (.int (x2 + y30)), some (.int (x3 + (1 : Int32)))]) (pc := 33) dX7_pays_33 rfl (by rw [gsti1]) (Nat.le_of_ble_eq_true rfl) rfl ?_
      refine wq_goto (pc := 36) (tgt := 4) dX7_pays_36 rfl ?_
      exact wq_T.less V ⟨rfl, ⟨rfl, ⟨rfl, ⟨rfl, trivial⟩⟩⟩⟩
    rcases V with ⟨fs28, w29, V⟩ | ⟨fs28, w29, V⟩
    · exact clq1092_8 (pc := 27) (As := [.int x1]) (st := [.ref a15, .int x2]) rfl dX7_pays_27 rfl (Nat.le_of_ble_eq_true rfl) w29 V (fun C25 S26 => wx_ki (fun y27 h24 V => T C25 S26 y27 h24 V))
    · exact clq1092_9 (pc := 27) (As := [.int x1]) (st := [.ref a15, .int x2]) rfl dX7_pays_27 rfl (Nat.le_of_ble_eq_true rfl) w29 V (fun C25 S26 => wx_ki (fun y27 h24 V => T C25 S26 y27 h24 V))
theorem vX7_flips_0 {G : wq_G} {l : Launch} {d C S : Nat} {K : wq_H → Prop} {x0 : Nat} {x1 : Int32} {h : wq_H} (V : wq_T G l d mX7_flips (wq_qv K) 2 [some (.ref x0), some (.int x1), some (.int (0 : Int32))] [] h C S) : wq_T G l d mX7_flips (wq_qv K) 0 [some (.ref x0), some (.int x1), none] [] h C S := by
  refine wq_iconst (pc := 0) dX7_flips_0 gsti0 ?_
  refine wq_istore_n (L' := [some (.ref x0), some (.int x1), some (.int (0 : Int32))]) (pc := 1) dX7_flips_1 rfl (Nat.le_of_ble_eq_true rfl) rfl ?_
  exact wq_T.less V ⟨rfl, ⟨rfl, ⟨rfl, trivial⟩⟩⟩
theorem vX7_flips_2 {G : wq_G} {l : Launch} {d C S : Nat} {K : wq_H → Prop} {x0 : Nat} {x1 : Int32} {x2 : Int32} {h : wq_H} (V : ∃ fs5 : List Value, h x0 = some (.inr (6, fs5)) ∧ (wq_ci G l d C S mX7_size [.ref x0] h (fun y4 h1 C2 S3 => (y4 ≤ x2 → K h1) ∧ (¬ y4 ≤ x2 → ∃ fs11 : List Value, h1 x0 = some (.inr (6, fs11)) ∧ (wq_cq G l d C2 S3 mX7_set [.ref x0, .int x2] h1 (fun r10 h7 C8 S9 => ∃ a13, r10 = some a13 ∧ ((∃ fs19 : List Value, h7 a13 = some (.inr (8, fs19)) ∧ wq_ci G l d C8 S9 mX9_isOf [.ref a13, .int x1] h7 (fun y18 h15 C16 S17 => (y18 = 0 → wq_T G l d mX7_flips (wq_qv K) 2 [some (.ref x0), some (.int x1), some (.int (x2 + (1 : Int32)))] [] h15 C16 S17) ∧ (¬ y18 = 0 → ∃ fs25 : List Value, h15 x0 = some (.inr (6, fs25)) ∧ (wq_cq G l d C16 S17 mX7_set [.ref x0, .int x2] h15 (fun r24 h21 C22 S23 => ∃ a27, r24 = some a27 ∧ ((∃ fs32 : List Value, h21 a27 = some (.inr (8, fs32)) ∧ wq_cw G l d C22 S23 mX9_flips [.ref a27, .int x1] h21 (fun h29 C30 S31 => wq_T G l d mX7_flips (wq_qv K) 2 [some (.ref x0), some (.int x1), some (.int (x2 + (1 : Int32)))] [] h29 C30 S31)) ∨ (∃ fs32 : List Value, h21 a27 = some (.inr (9, fs32)) ∧ wq_cw G l d C22 S23 mX9_flips [.ref a27, .int x1] h21 (fun h29 C30 S31 => wq_T G l d mX7_flips (wq_qv K) 2 [some (.ref x0), some (.int x1), some (.int (x2 + (1 : Int32)))] [] h29 C30 S31)))))))) ∨ (∃ fs19 : List Value, h7 a13 = some (.inr (9, fs19)) ∧ wq_ci G l d C8 S9 mX9_isOf [.ref a13, .int x1] h7 (fun y18 h15 C16 S17 => (y18 = 0 → wq_T G l d mX7_flips (wq_qv K) 2 [some (.ref x0), some (.int x1), some (.int (x2 + (1 : Int32)))] [] h15 C16 S17) ∧ (¬ y18 = 0 → ∃ fs25 : List Value, h15 x0 = some (.inr (6, fs25)) ∧ (wq_cq G l d C16 S17 mX7_set [.ref x0, .int x2] h15 (fun r24 h21 C22 S23 => ∃ a27, r24 = some a27 ∧ ((∃ fs32 : List Value, h21 a27 = some (.inr (8, fs32)) ∧ wq_cw G l d C22 S23 mX9_flips [.ref a27, .int x1] h21 (fun h29 C30 S31 => wq_T G l d mX7_flips (wq_qv K) 2 [some (.ref x0), some (.int x1), some (.int (x2 + (1 : Int32)))] [] h29 C30 S31)) ∨ (∃ fs32 : List Value, h21 a27 = some (.inr (9, fs32)) ∧ wq_cw G l d C22 S23 mX9_flips [.ref a27, .int x1] h21 (fun h29 C30 S31 => wq_T G l d mX7_flips (wq_qv K) 2 [some (.ref x0), some (.int x1), some (.int (x2 + (1 : Int32)))] [] h29 C30 S31))))))))))))))) : wq_T G l d mX7_flips (wq_qv K) 2 [some (.ref x0), some (.int x1), some (.int x2)] [] h C S := by
  refine wq_iload_n (pc := 2) dX7_flips_2 rfl rfl ?_
  refine wq_aload_n (pc := 3) dX7_flips_3 rfl rfl ?_
  obtain ⟨fs5, w6, V⟩ := V
  refine clq1080 (pc := 4) (As := []) (st := [.int x2]) rfl dX7_flips_4 rfl (Nat.le_of_ble_eq_true rfl) w6 V (fun C2 S3 => wx_ki (fun y4 h1 V => ?_))
  refine wq_icmp_ge (pc := 7) (tgt := 37) dX7_flips_7 rfl (fun c => ?_) (fun c => ?_)
  · have V := V.1 c
    refine wq_vret (pc := 37) dX7_flips_37 rfl ⟨rfl, V⟩
  · have V := V.2 c
    refine wq_aload_n (pc := 10) dX7_flips_10 rfl rfl ?_
    refine wq_iload_n (pc := 11) dX7_flips_11 rfl rfl ?_
    obtain ⟨fs11, w12, V⟩ := V
    refine clq1082 (pc := 12) (As := [.int x2]) (st := []) rfl dX7_flips_12 rfl (Nat.le_of_ble_eq_true rfl) w12 V (fun C8 S9 => wx_kq (fun r10 h7 V => ?_))
    refine wq_iload_n (pc := 15) dX7_flips_15 rfl rfl ?_
    obtain ⟨a13, w14, V⟩ := V
    rw [w14]
    have T : ∀ C16 S17 y18 h15, ((y18 = 0 → wq_T G l d mX7_flips (wq_qv K) 2 [some (.ref x0), some (.int x1), some (.int (x2 + (1 : Int32)))] [] h15 C16 S17) ∧ (¬ y18 = 0 → ∃ fs25 : List Value, h15 x0 = some (.inr (6, fs25)) ∧ (wq_cq G l d C16 S17 mX7_set [.ref x0, .int x2] h15 (fun r24 h21 C22 S23 => ∃ a27, r24 = some a27 ∧ ((∃ fs32 : List Value, h21 a27 = some (.inr (8, fs32)) ∧ wq_cw G l d C22 S23 mX9_flips [.ref a27, .int x1] h21 (fun h29 C30 S31 => wq_T G l d mX7_flips (wq_qv K) 2 [some (.ref x0), some (.int x1), some (.int (x2 + (1 : Int32)))] [] h29 C30 S31)) ∨ (∃ fs32 : List Value, h21 a27 = some (.inr (9, fs32)) ∧ wq_cw G l d C22 S23 mX9_flips [.ref a27, .int x1] h21 (fun h29 C30 S31 => wq_T G l d mX7_flips (wq_qv K) 2 [some (.ref x0), some (.int x1), some (.int (x2 + (1 : Int32)))] [] h29 C30 S31))))))) → wq_T G l d mX7_flips (wq_qv K) 19 [some (.ref x0), some (.int x1), some (.int x2)] [.int y18] h15 C16 S17 := by
      intro C16 S17 y18 h15 V
      refine wq_if_eq (pc := 19) (tgt := 31) dX7_flips_19 rfl (fun c => ?_) (fun c => ?_)
      · have V := V.1 c
        refine wq_iinc (L' := [some (.ref x0), some (.int x1), some (.int (x2 + (1 : Int32)))]) (pc := 31) dX7_flips_31 rfl (by rw [gsti1]) (Nat.le_of_ble_eq_true rfl) rfl ?_
        refine wq_goto (pc := 34) (tgt := 2) dX7_flips_34 rfl ?_
        exact wq_T.less V ⟨rfl, ⟨rfl, ⟨rfl, trivial⟩⟩⟩
      · have V := V.2 c
        refine wq_aload_n (pc := 22) dX7_flips_22 rfl rfl ?_
        refine wq_iload_n (pc := 23) dX7_flips_23 rfl rfl ?_
        obtain ⟨fs25, w26, V⟩ := V
        refine clq1082 (pc := 24) (As := [.int x2]) (st := []) rfl dX7_flips_24 rfl (Nat.le_of_ble_eq_true rfl) w26 V (fun C22 S23 => wx_kq (fun r24 h21 V => ?_))
        refine wq_iload_n (pc := 27) dX7_flips_27 rfl rfl ?_
        obtain ⟨a27, w28, V⟩ := V
        rw [w28]
        have T : ∀ C30 S31 h29, (wq_T G l d mX7_flips (wq_qv K) 2 [some (.ref x0), some (.int x1), some (.int (x2 + (1 : Int32)))] [] h29 C30 S31) → wq_T G l d mX7_flips (wq_qv K) 31 [some (.ref x0), some (.int x1), some (.int x2)] [] h29 C30 S31 := by
          intro C30 S31 h29 V
          refine wq_iinc (L' := [some (.ref x0), some (.int x1), some (.int (x2 + (1 : Int32)))]) (pc := 31) dX7_flips_31 rfl (by rw [gsti1]) (Nat.le_of_ble_eq_true rfl) rfl ?_
          refine wq_goto (pc := 34) (tgt := 2) dX7_flips_34 rfl ?_
          exact wq_T.less V ⟨rfl, ⟨rfl, ⟨rfl, trivial⟩⟩⟩
        rcases V with ⟨fs32, w33, V⟩ | ⟨fs32, w33, V⟩
        · exact clq1523_8 (pc := 28) (As := [.int x1]) (st := []) rfl dX7_flips_28 rfl (Nat.le_of_ble_eq_true rfl) w33 V (fun C30 S31 => wx_kv (fun h29 V => T C30 S31 h29 V))
        · exact clq1523_9 (pc := 28) (As := [.int x1]) (st := []) rfl dX7_flips_28 rfl (Nat.le_of_ble_eq_true rfl) w33 V (fun C30 S31 => wx_kv (fun h29 V => T C30 S31 h29 V))
    rcases V with ⟨fs19, w20, V⟩ | ⟨fs19, w20, V⟩
    · exact clq1136_8 (pc := 16) (As := [.int x1]) (st := []) rfl dX7_flips_16 rfl (Nat.le_of_ble_eq_true rfl) w20 V (fun C16 S17 => wx_ki (fun y18 h15 V => T C16 S17 y18 h15 V))
    · exact clq1136_9 (pc := 16) (As := [.int x1]) (st := []) rfl dX7_flips_16 rfl (Nat.le_of_ble_eq_true rfl) w20 V (fun C16 S17 => wx_ki (fun y18 h15 V => T C16 S17 y18 h15 V))
theorem vX7_isOf_0 {G : wq_G} {l : Launch} {d C S : Nat} {K : Int32 → wq_H → Prop} {x0 : Nat} {x1 : Int32} {h : wq_H} (V : wq_T G l d mX7_isOf (wq_qi K) 2 [some (.ref x0), some (.int x1), some (.int (0 : Int32))] [] h C S) : wq_T G l d mX7_isOf (wq_qi K) 0 [some (.ref x0), some (.int x1), none] [] h C S := by
  refine wq_iconst (pc := 0) dX7_isOf_0 gsti0 ?_
  refine wq_istore_n (L' := [some (.ref x0), some (.int x1), some (.int (0 : Int32))]) (pc := 1) dX7_isOf_1 rfl (Nat.le_of_ble_eq_true rfl) rfl ?_
  exact wq_T.less V ⟨rfl, ⟨rfl, ⟨rfl, trivial⟩⟩⟩
theorem vX7_isOf_2 {G : wq_G} {l : Launch} {d C S : Nat} {K : Int32 → wq_H → Prop} {x0 : Nat} {x1 : Int32} {x2 : Int32} {h : wq_H} (V : ∃ fs5 : List Value, h x0 = some (.inr (6, fs5)) ∧ (wq_ci G l d C S mX7_size [.ref x0] h (fun y4 h1 C2 S3 => (y4 ≤ x2 → K (0 : Int32) h1) ∧ (¬ y4 ≤ x2 → ∃ fs11 : List Value, h1 x0 = some (.inr (6, fs11)) ∧ (wq_cq G l d C2 S3 mX7_set [.ref x0, .int x2] h1 (fun r10 h7 C8 S9 => ∃ a13, r10 = some a13 ∧ ((∃ fs19 : List Value, h7 a13 = some (.inr (8, fs19)) ∧ wq_ci G l d C8 S9 mX9_isOf [.ref a13, .int x1] h7 (fun y18 h15 C16 S17 => (y18 = 0 → wq_T G l d mX7_isOf (wq_qi K) 2 [some (.ref x0), some (.int x1), some (.int (x2 + (1 : Int32)))] [] h15 C16 S17) ∧ (¬ y18 = 0 → K (1 : Int32) h15))) ∨ (∃ fs19 : List Value, h7 a13 = some (.inr (9, fs19)) ∧ wq_ci G l d C8 S9 mX9_isOf [.ref a13, .int x1] h7 (fun y18 h15 C16 S17 => (y18 = 0 → wq_T G l d mX7_isOf (wq_qi K) 2 [some (.ref x0), some (.int x1), some (.int (x2 + (1 : Int32)))] [] h15 C16 S17) ∧ (¬ y18 = 0 → K (1 : Int32) h15)))))))))) : wq_T G l d mX7_isOf (wq_qi K) 2 [some (.ref x0), some (.int x1), some (.int x2)] [] h C S := by
  refine wq_iload_n (pc := 2) dX7_isOf_2 rfl rfl ?_
  refine wq_aload_n (pc := 3) dX7_isOf_3 rfl rfl ?_
  obtain ⟨fs5, w6, V⟩ := V
  refine clq1080 (pc := 4) (As := []) (st := [.int x2]) rfl dX7_isOf_4 rfl (Nat.le_of_ble_eq_true rfl) w6 V (fun C2 S3 => wx_ki (fun y4 h1 V => ?_))
  refine wq_icmp_ge (pc := 7) (tgt := 30) dX7_isOf_7 rfl (fun c => ?_) (fun c => ?_)
  · have V := V.1 c
    refine wq_iconst (pc := 30) dX7_isOf_30 gsti0 ?_
    refine wq_zret (pc := 31) dX7_isOf_31 rfl gn_b0 ⟨_, rfl, V⟩
  · have V := V.2 c
    refine wq_aload_n (pc := 10) dX7_isOf_10 rfl rfl ?_
    refine wq_iload_n (pc := 11) dX7_isOf_11 rfl rfl ?_
    obtain ⟨fs11, w12, V⟩ := V
    refine clq1082 (pc := 12) (As := [.int x2]) (st := []) rfl dX7_isOf_12 rfl (Nat.le_of_ble_eq_true rfl) w12 V (fun C8 S9 => wx_kq (fun r10 h7 V => ?_))
    refine wq_iload_n (pc := 15) dX7_isOf_15 rfl rfl ?_
    obtain ⟨a13, w14, V⟩ := V
    rw [w14]
    have T : ∀ C16 S17 y18 h15, ((y18 = 0 → wq_T G l d mX7_isOf (wq_qi K) 2 [some (.ref x0), some (.int x1), some (.int (x2 + (1 : Int32)))] [] h15 C16 S17) ∧ (¬ y18 = 0 → K (1 : Int32) h15)) → wq_T G l d mX7_isOf (wq_qi K) 19 [some (.ref x0), some (.int x1), some (.int x2)] [.int y18] h15 C16 S17 := by
      intro C16 S17 y18 h15 V
      refine wq_if_eq (pc := 19) (tgt := 24) dX7_isOf_19 rfl (fun c => ?_) (fun c => ?_)
      · have V := V.1 c
        refine wq_iinc (L' := [some (.ref x0), some (.int x1), some (.int (x2 + (1 : Int32)))]) (pc := 24) dX7_isOf_24 rfl (by rw [gsti1]) (Nat.le_of_ble_eq_true rfl) rfl ?_
        refine wq_goto (pc := 27) (tgt := 2) dX7_isOf_27 rfl ?_
        exact wq_T.less V ⟨rfl, ⟨rfl, ⟨rfl, trivial⟩⟩⟩
      · have V := V.2 c
        refine wq_iconst (pc := 22) dX7_isOf_22 gsti1 ?_
        refine wq_zret (pc := 23) dX7_isOf_23 rfl gn_b1 ⟨_, rfl, V⟩
    rcases V with ⟨fs19, w20, V⟩ | ⟨fs19, w20, V⟩
    · exact clq1136_8 (pc := 16) (As := [.int x1]) (st := []) rfl dX7_isOf_16 rfl (Nat.le_of_ble_eq_true rfl) w20 V (fun C16 S17 => wx_ki (fun y18 h15 V => T C16 S17 y18 h15 V))
    · exact clq1136_9 (pc := 16) (As := [.int x1]) (st := []) rfl dX7_isOf_16 rfl (Nat.le_of_ble_eq_true rfl) w20 V (fun C16 S17 => wx_ki (fun y18 h15 V => T C16 S17 y18 h15 V))
theorem vX7_forgets_0 {G : wq_G} {l : Launch} {d C S : Nat} {K : wq_H → Prop} {x0 : Nat} {x1 : Int32} {h : wq_H} (V : ∃ fs5 : List Value, h x0 = some (.inr (6, fs5)) ∧ (wq_ci G l d C S mX7_size [.ref x0] h (fun y4 h1 C2 S3 => wq_T G l d mX7_forgets (wq_qv K) 7 [some (.ref x0), some (.int x1), some (.int (y4 - (1 : Int32))), none] [] h1 C2 S3))) : wq_T G l d mX7_forgets (wq_qv K) 0 [some (.ref x0), some (.int x1), none, none] [] h C S := by
  refine wq_aload_n (pc := 0) dX7_forgets_0 rfl rfl ?_
  obtain ⟨fs5, w6, V⟩ := V
  refine clq1080 (pc := 1) (As := []) (st := []) rfl dX7_forgets_1 rfl (Nat.le_of_ble_eq_true rfl) w6 V (fun C2 S3 => wx_ki (fun y4 h1 V => ?_))
  refine wq_iconst (pc := 4) dX7_forgets_4 gsti1 ?_
  refine wq_isub (pc := 5) dX7_forgets_5 ?_
  refine wq_istore_n (L' := [some (.ref x0), some (.int x1), some (.int (y4 - (1 : Int32))), none]) (pc := 6) dX7_forgets_6 rfl (Nat.le_of_ble_eq_true rfl) rfl ?_
  exact wq_T.less V ⟨rfl, ⟨rfl, ⟨rfl, trivial⟩⟩⟩
theorem vX7_forgets_7 {G : wq_G} {l : Launch} {d C S : Nat} {K : wq_H → Prop} {x0 : Nat} {x1 : Int32} {x2 : Int32} {h : wq_H} (V : (x2 < 0 → K h) ∧ (¬ x2 < 0 → ∃ fs5 : List Value, h x0 = some (.inr (6, fs5)) ∧ (wq_cq G l d C S mX7_set [.ref x0, .int x2] h (fun r4 h1 C2 S3 => ∃ a7, r4 = some a7 ∧ ((∃ fs13 : List Value, h1 a7 = some (.inr (8, fs13)) ∧ wq_ci G l d C2 S3 mX9_isOf [.ref a7, .int x1] h1 (fun y12 h9 C10 S11 => (¬ y12 = 0 → ∃ fs19 : List Value, h9 x0 = some (.inr (6, fs19)) ∧ (wq_cq G l d C10 S11 mX7_set [.ref x0, .int x2] h9 (fun r18 h15 C16 S17 => ∃ a21, r18 = some a21 ∧ ((∃ fs27 : List Value, h15 a21 = some (.inr (8, fs27)) ∧ wq_cq G l d C16 S17 mX10_without [.ref a21, .int x1] h15 (fun r26 h23 C24 S25 => (r26 = none → wq_gR h23 x0 [(6, 0)] (fun a30 => ∃ fs35 : List Value, h23 a30 = some (.inr (16, fs35)) ∧ (wq_cq G l d C24 S25 mJ2_remove [.ref a30, .int x2] h23 (fun r34 h31 C32 S33 => wq_T G l d mX7_forgets (wq_qv K) 7 [some (.ref x0), some (.int x1), some (.int (x2 + (-1 : Int32))), none] [] h31 C32 S33)))) ∧ (∀ a29, r26 = some a29 → wq_gR h23 x0 [(6, 0)] (fun a37 => ∃ fs42 : List Value, h23 a37 = some (.inr (16, fs42)) ∧ (wq_cq G l d C24 S25 mJ2_set [.ref a37, .int x2, .ref a29] h23 (fun r41 h38 C39 S40 => wq_T G l d mX7_forgets (wq_qv K) 7 [some (.ref x0), some (.int x1), some (.int (x2 + (-1 : Int32))), none] [] h38 C39 S40)))))) ∨ (∃ fs27 : List Value, h15 a21 = some (.inr (9, fs27)) ∧ wq_cq G l d C16 S17 mX11_without [.ref a21, .int x1] h15 (fun r26 h23 C24 S25 => (r26 = none → wq_gR h23 x0 [(6, 0)] (fun a30 => ∃ fs35 : List Value, h23 a30 = some (.inr (16, fs35)) ∧ (wq_cq G l d C24 S25 mJ2_remove [.ref a30, .int x2] h23 (fun r34 h31 C32 S33 => wq_T G l d mX7_forgets (wq_qv K) 7 [some (.ref x0), some (.int x1), some (.int (x2 + (-1 : Int32))), none] [] h31 C32 S33)))) ∧ (∀ a29, r26 = some a29 → wq_gR h23 x0 [(6, 0)] (fun a37 => ∃ fs42 : List Value, h23 a37 = some (.inr (16, fs42)) ∧ (wq_cq G l d C24 S25 mJ2_set [.ref a37, .int x2, .ref a29] h23 (fun r41 h38 C39 S40 => wq_T G l d mX7_forgets (wq_qv K) 7 [some (.ref x0), some (.int x1), some (.int (x2 + (-1 : Int32))), none] [] h38 C39 S40)))))))))) ∧ (y12 = 0 → wq_T G l d mX7_forgets (wq_qv K) 7 [some (.ref x0), some (.int x1), some (.int (x2 + (-1 : Int32))), none] [] h9 C10 S11))) ∨ (∃ fs13 : List Value, h1 a7 = some (.inr (9, fs13)) ∧ wq_ci G l d C2 S3 mX9_isOf [.ref a7, .int x1] h1 (fun y12 h9 C10 S11 => (¬ y12 = 0 → ∃ fs19 : List Value, h9 x0 = some (.inr (6, fs19)) ∧ (wq_cq G l d C10 S11 mX7_set [.ref x0, .int x2] h9 (fun r18 h15 C16 S17 => ∃ a21, r18 = some a21 ∧ ((∃ fs27 : List Value, h15 a21 = some (.inr (8, fs27)) ∧ wq_cq G l d C16 S17 mX10_without [.ref a21, .int x1] h15 (fun r26 h23 C24 S25 => (r26 = none → wq_gR h23 x0 [(6, 0)] (fun a30 => ∃ fs35 : List Value, h23 a30 = some (.inr (16, fs35)) ∧ (wq_cq G l d C24 S25 mJ2_remove [.ref a30, .int x2] h23 (fun r34 h31 C32 S33 => wq_T G l d mX7_forgets (wq_qv K) 7 [some (.ref x0), some (.int x1), some (.int (x2 + (-1 : Int32))), none] [] h31 C32 S33)))) ∧ (∀ a29, r26 = some a29 → wq_gR h23 x0 [(6, 0)] (fun a37 => ∃ fs42 : List Value, h23 a37 = some (.inr (16, fs42)) ∧ (wq_cq G l d C24 S25 mJ2_set [.ref a37, .int x2, .ref a29] h23 (fun r41 h38 C39 S40 => wq_T G l d mX7_forgets (wq_qv K) 7 [some (.ref x0), some (.int x1), some (.int (x2 + (-1 : Int32))), none] [] h38 C39 S40)))))) ∨ (∃ fs27 : List Value, h15 a21 = some (.inr (9, fs27)) ∧ wq_cq G l d C16 S17 mX11_without [.ref a21, .int x1] h15 (fun r26 h23 C24 S25 => (r26 = none → wq_gR h23 x0 [(6, 0)] (fun a30 => ∃ fs35 : List Value, h23 a30 = some (.inr (16, fs35)) ∧ (wq_cq G l d C24 S25 mJ2_remove [.ref a30, .int x2] h23 (fun r34 h31 C32 S33 => wq_T G l d mX7_forgets (wq_qv K) 7 [some (.ref x0), some (.int x1), some (.int (x2 + (-1 : Int32))), none] [] h31 C32 S33)))) ∧ (∀ a29, r26 = some a29 → wq_gR h23 x0 [(6, 0)] (fun a37 => ∃ fs42 : List Value, h23 a37 = some (.inr (16, fs42)) ∧ (wq_cq G l d C24 S25 mJ2_set [.ref a37, .int x2, .ref a29] h23 (fun r41 h38 C39 S40 => wq_T G l d mX7_forgets (wq_qv K) 7 [some (.ref x0), some (.int x1), some (.int (x2 + (-1 : Int32))), none] [] h38 C39 S40)))))))))) ∧ (y12 = 0 → wq_T G l d mX7_forgets (wq_qv K) 7 [some (.ref x0), some (.int x1), some (.int (x2 + (-1 : Int32))), none] [] h9 C10 S11)))))))) : wq_T G l d mX7_forgets (wq_qv K) 7 [some (.ref x0), some (.int x1), some (.int x2), none] [] h C S := by
  refine wq_iload_n (pc := 7) dX7_forgets_7 rfl rfl ?_
  refine wq_if_lt (pc := 8) (tgt := 68) dX7_forgets_8 rfl (fun c => ?_) (fun c => ?_)
  · have V := V.1 c
    refine wq_vret (pc := 68) dX7_forgets_68 rfl ⟨rfl, V⟩
  · have V := V.2 c
    refine wq_aload_n (pc := 11) dX7_forgets_11 rfl rfl ?_
    refine wq_iload_n (pc := 12) dX7_forgets_12 rfl rfl ?_
    obtain ⟨fs5, w6, V⟩ := V
    refine clq1082 (pc := 13) (As := [.int x2]) (st := []) rfl dX7_forgets_13 rfl (Nat.le_of_ble_eq_true rfl) w6 V (fun C2 S3 => wx_kq (fun r4 h1 V => ?_))
    refine wq_iload_n (pc := 16) dX7_forgets_16 rfl rfl ?_
    obtain ⟨a7, w8, V⟩ := V
    rw [w8]
    have T : ∀ C10 S11 y12 h9, ((¬ y12 = 0 → ∃ fs19 : List Value, h9 x0 = some (.inr (6, fs19)) ∧ (wq_cq G l d C10 S11 mX7_set [.ref x0, .int x2] h9 (fun r18 h15 C16 S17 => ∃ a21, r18 = some a21 ∧ ((∃ fs27 : List Value, h15 a21 = some (.inr (8, fs27)) ∧ wq_cq G l d C16 S17 mX10_without [.ref a21, .int x1] h15 (fun r26 h23 C24 S25 => (r26 = none → wq_gR h23 x0 [(6, 0)] (fun a30 => ∃ fs35 : List Value, h23 a30 = some (.inr (16, fs35)) ∧ (wq_cq G l d C24 S25 mJ2_remove [.ref a30, .int x2] h23 (fun r34 h31 C32 S33 => wq_T G l d mX7_forgets (wq_qv K) 7 [some (.ref x0), some (.int x1), some (.int (x2 + (-1 : Int32))), none] [] h31 C32 S33)))) ∧ (∀ a29, r26 = some a29 → wq_gR h23 x0 [(6, 0)] (fun a37 => ∃ fs42 : List Value, h23 a37 = some (.inr (16, fs42)) ∧ (wq_cq G l d C24 S25 mJ2_set [.ref a37, .int x2, .ref a29] h23 (fun r41 h38 C39 S40 => wq_T G l d mX7_forgets (wq_qv K) 7 [some (.ref x0), some (.int x1), some (.int (x2 + (-1 : Int32))), none] [] h38 C39 S40)))))) ∨ (∃ fs27 : List Value, h15 a21 = some (.inr (9, fs27)) ∧ wq_cq G l d C16 S17 mX11_without [.ref a21, .int x1] h15 (fun r26 h23 C24 S25 => (r26 = none → wq_gR h23 x0 [(6, 0)] (fun a30 => ∃ fs35 : List Value, h23 a30 = some (.inr (16, fs35)) ∧ (wq_cq G l d C24 S25 mJ2_remove [.ref a30, .int x2] h23 (fun r34 h31 C32 S33 => wq_T G l d mX7_forgets (wq_qv K) 7 [some (.ref x0), some (.int x1), some (.int (x2 + (-1 : Int32))), none] [] h31 C32 S33)))) ∧ (∀ a29, r26 = some a29 → wq_gR h23 x0 [(6, 0)] (fun a37 => ∃ fs42 : List Value, h23 a37 = some (.inr (16, fs42)) ∧ (wq_cq G l d C24 S25 mJ2_set [.ref a37, .int x2, .ref a29] h23 (fun r41 h38 C39 S40 => wq_T G l d mX7_forgets (wq_qv K) 7 [some (.ref x0), some (.int x1), some (.int (x2 + (-1 : Int32))), none] [] h38 C39 S40)))))))))) ∧ (y12 = 0 → wq_T G l d mX7_forgets (wq_qv K) 7 [some (.ref x0), some (.int x1), some (.int (x2 + (-1 : Int32))), none] [] h9 C10 S11)) → wq_T G l d mX7_forgets (wq_qv K) 20 [some (.ref x0), some (.int x1), some (.int x2), none] [.int y12] h9 C10 S11 := by
      intro C10 S11 y12 h9 V
      refine wq_if_ne (pc := 20) (tgt := 26) dX7_forgets_20 rfl (fun c => ?_) (fun c => ?_)
      · have V := V.1 c
        refine wq_aload_n (pc := 26) dX7_forgets_26 rfl rfl ?_
        refine wq_iload_n (pc := 27) dX7_forgets_27 rfl rfl ?_
        obtain ⟨fs19, w20, V⟩ := V
        refine clq1082 (pc := 28) (As := [.int x2]) (st := []) rfl dX7_forgets_28 rfl (Nat.le_of_ble_eq_true rfl) w20 V (fun C16 S17 => wx_kq (fun r18 h15 V => ?_))
        refine wq_iload_n (pc := 31) dX7_forgets_31 rfl rfl ?_
        obtain ⟨a21, w22, V⟩ := V
        rw [w22]
        have T : ∀ C24 S25 r26 h23, ((r26 = none → wq_gR h23 x0 [(6, 0)] (fun a30 => ∃ fs35 : List Value, h23 a30 = some (.inr (16, fs35)) ∧ (wq_cq G l d C24 S25 mJ2_remove [.ref a30, .int x2] h23 (fun r34 h31 C32 S33 => wq_T G l d mX7_forgets (wq_qv K) 7 [some (.ref x0), some (.int x1), some (.int (x2 + (-1 : Int32))), none] [] h31 C32 S33)))) ∧ (∀ a29, r26 = some a29 → wq_gR h23 x0 [(6, 0)] (fun a37 => ∃ fs42 : List Value, h23 a37 = some (.inr (16, fs42)) ∧ (wq_cq G l d C24 S25 mJ2_set [.ref a37, .int x2, .ref a29] h23 (fun r41 h38 C39 S40 => wq_T G l d mX7_forgets (wq_qv K) 7 [some (.ref x0), some (.int x1), some (.int (x2 + (-1 : Int32))), none] [] h38 C39 S40))))) → wq_T G l d mX7_forgets (wq_qv K) 35 [some (.ref x0), some (.int x1), some (.int x2), none] [va_rf r26] h23 C24 S25 := by
          intro C24 S25 r26 h23 V
          refine wq_astore_nQ (L' := [some (.ref x0), some (.int x1), some (.int x2), some (va_rf r26)]) (pc := 35) dX7_forgets_35 rfl (Nat.le_of_ble_eq_true rfl) rfl ?_
          refine wq_aload_nQ (pc := 36) dX7_forgets_36 rfl rfl ?_
          refine wq_ifnonnull (pc := 37) (tgt := 52) dX7_forgets_37 rfl (fun a29 c => ?_) (fun c => ?_)
          · subst c
            have V := V.2 a29 rfl
            refine wq_aload_n (pc := 52) dX7_forgets_52 rfl rfl ?_
            refine gfq299 (pc := 53) rfl dX7_forgets_53 V (fun a37 V => ?_)
            refine wq_iload_n (pc := 56) dX7_forgets_56 rfl rfl ?_
            refine wq_aload_n (pc := 57) dX7_forgets_57 rfl rfl ?_
            obtain ⟨fs42, w43, V⟩ := V
            refine clq1568 (pc := 58) (As := [.int x2, .ref a29]) (st := []) rfl dX7_forgets_58 rfl (Nat.le_of_ble_eq_true rfl) w43 V (fun C39 S40 => wx_kq (fun r41 h38 V => ?_))
            refine wq_pop (pc := 61) dX7_forgets_61 (wq_cat1 _) ?_
            refine wq_iinc (L' := [some (.ref x0), some (.int x1), some (.int (x2 + (-1 : Int32))), some (.ref a29)]) (pc := 62) dX7_forgets_62 rfl (by rw [gstim1]) (Nat.le_of_ble_eq_true rfl) rfl ?_
            refine wq_goto (pc := 65) (tgt := 7) dX7_forgets_65 rfl ?_
            exact wq_T.less V ⟨rfl, ⟨rfl, ⟨rfl, trivial⟩⟩⟩
          · subst c
            have V := V.1 rfl
            refine wq_aload_n (pc := 40) dX7_forgets_40 rfl rfl ?_
            refine gfq299 (pc := 41) rfl dX7_forgets_41 V (fun a30 V => ?_)
            refine wq_iload_n (pc := 44) dX7_forgets_44 rfl rfl ?_
            obtain ⟨fs35, w36, V⟩ := V
            refine clq1567 (pc := 45) (As := [.int x2]) (st := []) rfl dX7_forgets_45 rfl (Nat.le_of_ble_eq_true rfl) w36 V (fun C32 S33 => wx_kq (fun r34 h31 V => ?_))
            refine wq_pop (pc := 48) dX7_forgets_48 (wq_cat1 _) ?_
            refine wq_goto (pc := 49) (tgt := 62) dX7_forgets_49 rfl ?_
            refine wq_iinc (L' := [some (.ref x0), some (.int x1), some (.int (x2 + (-1 : Int32))), some (va_rf none)]) (pc := 62) dX7_forgets_62 rfl (by rw [gstim1]) (Nat.le_of_ble_eq_true rfl) rfl ?_
            refine wq_goto (pc := 65) (tgt := 7) dX7_forgets_65 rfl ?_
            exact wq_T.less V ⟨rfl, ⟨rfl, ⟨rfl, trivial⟩⟩⟩
        rcases V with ⟨fs27, w28, V⟩ | ⟨fs27, w28, V⟩
        · exact clq1556_8 (pc := 32) (As := [.int x1]) (st := []) rfl dX7_forgets_32 rfl (Nat.le_of_ble_eq_true rfl) w28 V (fun C24 S25 => wx_kq (fun r26 h23 V => T C24 S25 r26 h23 V))
        · exact clq1556_9 (pc := 32) (As := [.int x1]) (st := []) rfl dX7_forgets_32 rfl (Nat.le_of_ble_eq_true rfl) w28 V (fun C24 S25 => wx_kq (fun r26 h23 V => T C24 S25 r26 h23 V))
      · have V := V.2 c
        refine wq_goto (pc := 23) (tgt := 62) dX7_forgets_23 rfl ?_
        refine wq_iinc (L' := [some (.ref x0), some (.int x1), some (.int (x2 + (-1 : Int32))), none]) (pc := 62) dX7_forgets_62 rfl (by rw [gstim1]) (Nat.le_of_ble_eq_true rfl) rfl ?_
        refine wq_goto (pc := 65) (tgt := 7) dX7_forgets_65 rfl ?_
        exact wq_T.less V ⟨rfl, ⟨rfl, ⟨rfl, trivial⟩⟩⟩
    rcases V with ⟨fs13, w14, V⟩ | ⟨fs13, w14, V⟩
    · exact clq1136_8 (pc := 17) (As := [.int x1]) (st := []) rfl dX7_forgets_17 rfl (Nat.le_of_ble_eq_true rfl) w14 V (fun C10 S11 => wx_ki (fun y12 h9 V => T C10 S11 y12 h9 V))
    · exact clq1136_9 (pc := 17) (As := [.int x1]) (st := []) rfl dX7_forgets_17 rfl (Nat.le_of_ble_eq_true rfl) w14 V (fun C10 S11 => wx_ki (fun y12 h9 V => T C10 S11 y12 h9 V))
theorem vX8_init_0 {G : wq_G} {l : Launch} {d C S : Nat} {K : wq_H → Prop} (hd1 : 1 ≤ d) {x0 : Nat} {x1 : Int32} {x2 : Int32} {x3 : Int32} {x4 : Nat} {h : wq_H} (V : wq_pf G h x0 [(7, 0)] (.int x1) (fun h1 => wq_pf G h1 x0 [(7, 1)] (.int x2) (fun h2 => wq_pf G h2 x0 [(7, 2)] (.int x3) (fun h3 => wq_pf G h3 x0 [(7, 3)] (.ref x4) (fun h4 => K h4))))) : wq_T G l d mX8_init (wq_qv K) 0 [some (.ref x0), some (.int x1), some (.int x2), some (.int x3), some (.ref x4)] [] h C S := by
  refine wq_aload_n (pc := 0) dX8_init_0 rfl rfl ?_
  refine wq_objInit (pc := 1) q359 q157 q158 dX8_init_1 (Nat.le_of_ble_eq_true rfl) hd1 ?_
  refine wq_aload_n (pc := 4) dX8_init_4 rfl rfl ?_
  refine wq_iload_n (pc := 5) dX8_init_5 rfl rfl ?_
  refine pfq360 (pc := 6) rfl rfl dX8_init_6 ⟨rfl, rfl⟩ V (fun h1 V => ?_)
  refine wq_aload_n (pc := 9) dX8_init_9 rfl rfl ?_
  refine wq_iload_n (pc := 10) dX8_init_10 rfl rfl ?_
  refine pfq362 (pc := 11) rfl rfl dX8_init_11 ⟨rfl, rfl⟩ V (fun h2 V => ?_)
  refine wq_aload_n (pc := 14) dX8_init_14 rfl rfl ?_
  refine wq_iload_n (pc := 15) dX8_init_15 rfl rfl ?_
  refine pfq364 (pc := 16) rfl rfl dX8_init_16 ⟨rfl, rfl⟩ V (fun h3 V => ?_)
  refine wq_aload_n (pc := 19) dX8_init_19 rfl rfl ?_
  refine wq_aload (pc := 20) dX8_init_20 rfl ?_
  refine pfq366 (pc := 22) rfl rfl dX8_init_22 (wq_nfr rfl (some x4)) V (fun h4 V => ?_)
  refine wq_vret (pc := 25) dX8_init_25 rfl ⟨rfl, V⟩
theorem vX8_is_0 {G : wq_G} {l : Launch} {d C S : Nat} {K : Int32 → wq_H → Prop} {x0 : Nat} {x1 : Nat} {h : wq_H} (V : wq_gI h x0 [(7, 0)] (fun y1 => (¬ y1 = (2 : Int32) → K (0 : Int32) h) ∧ (y1 = (2 : Int32) → wq_gR h x0 [(7, 3)] (fun a2 => ∃ fs7 : List Value, h a2 = some (.inr (18, fs7)) ∧ (wq_ci G l d C S mJ5_equals [.ref a2, .ref x1] h (fun y6 h3 C4 S5 => (y6 = 0 → K (0 : Int32) h3) ∧ (¬ y6 = 0 → K (1 : Int32) h3))))))) : wq_T G l d mX8_is (wq_qi K) 0 [some (.ref x0), some (.ref x1)] [] h C S := by
  refine wq_aload_n (pc := 0) dX8_is_0 rfl rfl ?_
  refine gfq360 (pc := 1) rfl dX8_is_1 V (fun y1 V => ?_)
  refine wq_iconst (pc := 4) dX8_is_4 gsti2 ?_
  refine wq_icmp_ne (pc := 5) (tgt := 23) dX8_is_5 rfl (fun c => ?_) (fun c => ?_)
  · have V := V.1 c
    refine wq_iconst (pc := 23) dX8_is_23 gsti0 ?_
    refine wq_zret (pc := 24) dX8_is_24 rfl gn_b0 ⟨_, rfl, V⟩
  · have V := V.2 c
    refine wq_aload_n (pc := 8) dX8_is_8 rfl rfl ?_
    refine gfq366 (pc := 9) rfl dX8_is_9 V (fun a2 V => ?_)
    refine wq_aload_n (pc := 12) dX8_is_12 rfl rfl ?_
    obtain ⟨fs7, w8, V⟩ := V
    refine clq693 (pc := 13) (As := [.ref x1]) (st := []) rfl dX8_is_13 rfl (Nat.le_of_ble_eq_true rfl) w8 V (fun C4 S5 => wx_ki (fun y6 h3 V => ?_))
    refine wq_if_eq (pc := 16) (tgt := 23) dX8_is_16 rfl (fun c => ?_) (fun c => ?_)
    · have V := V.1 c
      refine wq_iconst (pc := 23) dX8_is_23 gsti0 ?_
      refine wq_zret (pc := 24) dX8_is_24 rfl gn_b0 ⟨_, rfl, V⟩
    · have V := V.2 c
      refine wq_iconst (pc := 19) dX8_is_19 gsti1 ?_
      refine wq_goto (pc := 20) (tgt := 24) dX8_is_20 rfl ?_
      refine wq_zret (pc := 24) dX8_is_24 rfl gn_b1 ⟨_, rfl, V⟩
theorem vX8_isName_0 {G : wq_G} {l : Launch} {d C S : Nat} {K : Int32 → wq_H → Prop} {x0 : Nat} {h : wq_H} (V : wq_gI h x0 [(7, 0)] (fun y1 => (y1 = (2 : Int32) → wq_gR h x0 [(7, 3)] (fun a2 => ∃ fs7 : List Value, h a2 = some (.inr (18, fs7)) ∧ (wq_ci G l d C S mJ5_hashCode [.ref a2] h (fun y6 h3 C4 S5 => (y6.toInt = 106914 → ∃ fs13 : List Value, h3 a2 = some (.inr (18, fs13)) ∧ (wq_ci G l d C4 S5 mJ5_equals [.ref a2, .ref (G.2.2.2.2 13)] h3 (fun y12 h9 C10 S11 => (y12 = 0 → wq_T G l d mX8_isName (wq_qi K) 184 [none, none, some (.int (-1 : Int32))] [] h9 C10 S11) ∧ (¬ y12 = 0 → wq_T G l d mX8_isName (wq_qi K) 184 [none, none, some (.int (0 : Int32))] [] h9 C10 S11)))) ∧ (y6.toInt = 112682 → ∃ fs19 : List Value, h3 a2 = some (.inr (18, fs19)) ∧ (wq_ci G l d C4 S5 mJ5_equals [.ref a2, .ref (G.2.2.2.2 19)] h3 (fun y18 h15 C16 S17 => (y18 = 0 → wq_T G l d mX8_isName (wq_qi K) 184 [none, none, some (.int (-1 : Int32))] [] h15 C16 S17) ∧ (¬ y18 = 0 → wq_T G l d mX8_isName (wq_qi K) 184 [none, none, some (.int (5 : Int32))] [] h15 C16 S17)))) ∧ (y6.toInt = 113291 → ∃ fs25 : List Value, h3 a2 = some (.inr (18, fs25)) ∧ (wq_ci G l d C4 S5 mJ5_equals [.ref a2, .ref (G.2.2.2.2 20)] h3 (fun y24 h21 C22 S23 => (y24 = 0 → wq_T G l d mX8_isName (wq_qi K) 184 [none, none, some (.int (-1 : Int32))] [] h21 C22 S23) ∧ (¬ y24 = 0 → wq_T G l d mX8_isName (wq_qi K) 184 [none, none, some (.int (6 : Int32))] [] h21 C22 S23)))) ∧ (y6.toInt = 113762 → ∃ fs31 : List Value, h3 a2 = some (.inr (18, fs31)) ∧ (wq_ci G l d C4 S5 mJ5_equals [.ref a2, .ref (G.2.2.2.2 21)] h3 (fun y30 h27 C28 S29 => (y30 = 0 → wq_T G l d mX8_isName (wq_qi K) 184 [none, none, some (.int (-1 : Int32))] [] h27 C28 S29) ∧ (¬ y30 = 0 → wq_T G l d mX8_isName (wq_qi K) 184 [none, none, some (.int (3 : Int32))] [] h27 C28 S29)))) ∧ (y6.toInt = 3321844 → ∃ fs37 : List Value, h3 a2 = some (.inr (18, fs37)) ∧ (wq_ci G l d C4 S5 mJ5_equals [.ref a2, .ref (G.2.2.2.2 14)] h3 (fun y36 h33 C34 S35 => (y36 = 0 → wq_T G l d mX8_isName (wq_qi K) 184 [none, none, some (.int (-1 : Int32))] [] h33 C34 S35) ∧ (¬ y36 = 0 → wq_T G l d mX8_isName (wq_qi K) 184 [none, none, some (.int (4 : Int32))] [] h33 C34 S35)))) ∧ (y6.toInt = 3327647 → ∃ fs43 : List Value, h3 a2 = some (.inr (18, fs43)) ∧ (wq_ci G l d C4 S5 mJ5_equals [.ref a2, .ref (G.2.2.2.2 15)] h3 (fun y42 h39 C40 S41 => (y42 = 0 → wq_T G l d mX8_isName (wq_qi K) 184 [none, none, some (.int (-1 : Int32))] [] h39 C40 S41) ∧ (¬ y42 = 0 → wq_T G l d mX8_isName (wq_qi K) 184 [none, none, some (.int (1 : Int32))] [] h39 C40 S41)))) ∧ (y6.toInt = 106845584 → ∃ fs49 : List Value, h3 a2 = some (.inr (18, fs49)) ∧ (wq_ci G l d C4 S5 mJ5_equals [.ref a2, .ref (G.2.2.2.2 18)] h3 (fun y48 h45 C46 S47 => (y48 = 0 → wq_T G l d mX8_isName (wq_qi K) 184 [none, none, some (.int (-1 : Int32))] [] h45 C46 S47) ∧ (¬ y48 = 0 → wq_T G l d mX8_isName (wq_qi K) 184 [none, none, some (.int (2 : Int32))] [] h45 C46 S47)))) ∧ (¬ y6.toInt = 106914 ∧ ¬ y6.toInt = 112682 ∧ ¬ y6.toInt = 113291 ∧ ¬ y6.toInt = 113762 ∧ ¬ y6.toInt = 3321844 ∧ ¬ y6.toInt = 3327647 ∧ ¬ y6.toInt = 106845584 → wq_T G l d mX8_isName (wq_qi K) 184 [none, none, some (.int (-1 : Int32))] [] h3 C4 S5))))) ∧ (¬ y1 = (2 : Int32) → K (0 : Int32) h))) : wq_T G l d mX8_isName (wq_qi K) 0 [some (.ref x0), none, none] [] h C S := by
  refine wq_aload_n (pc := 0) dX8_isName_0 rfl rfl ?_
  refine gfq360 (pc := 1) rfl dX8_isName_1 V (fun y1 V => ?_)
  refine wq_iconst (pc := 4) dX8_isName_4 gsti2 ?_
  refine wq_icmp_eq (pc := 5) (tgt := 10) dX8_isName_5 rfl (fun c => ?_) (fun c => ?_)
  · have V := V.1 c
    refine wq_aload_n (pc := 10) dX8_isName_10 rfl rfl ?_
    refine gfq366 (pc := 11) rfl dX8_isName_11 V (fun a2 V => ?_)
    refine wq_astore_n (L' := [some (.ref x0), some (.ref a2), none]) (pc := 14) dX8_isName_14 rfl (Nat.le_of_ble_eq_true rfl) rfl ?_
    refine wq_iconst (pc := 15) dX8_isName_15 gstim1 ?_
    refine wq_istore_n (L' := [some (.ref x0), some (.ref a2), some (.int (-1 : Int32))]) (pc := 16) dX8_isName_16 rfl (Nat.le_of_ble_eq_true rfl) rfl ?_
    refine wq_aload_n (pc := 17) dX8_isName_17 rfl rfl ?_
    obtain ⟨fs7, w8, V⟩ := V
    refine clq711 (pc := 18) (As := []) (st := []) rfl dX8_isName_18 rfl (Nat.le_of_ble_eq_true rfl) w8 V (fun C4 S5 => wx_ki (fun y6 h3 V => ?_))
    by_cases c0 : y6.toInt = 106914
    · refine wq_lookup (pc := 21) (off := 67) (tgt := 88) dX8_isName_21 (by decide) (by rw [c0]; decide) rfl ?_
      have V := V.1 c0
      refine wq_aload_n (pc := 88) dX8_isName_88 rfl rfl ?_
      refine wq_ldcS (a := G.2.2.2.2 13) (pc := 89) (gstr_X8_33 G) dX8_isName_89 ?_
      obtain ⟨fs13, w14, V⟩ := V
      refine clq693 (pc := 91) (As := [.ref (G.2.2.2.2 13)]) (st := []) rfl dX8_isName_91 rfl (Nat.le_of_ble_eq_true rfl) w14 V (fun C10 S11 => wx_ki (fun y12 h9 V => ?_))
      refine wq_if_eq (pc := 94) (tgt := 184) dX8_isName_94 rfl (fun c => ?_) (fun c => ?_)
      · have V := V.1 c
        exact wq_T.less V ⟨rfl, trivial⟩
      · have V := V.2 c
        refine wq_iconst (pc := 97) dX8_isName_97 gsti0 ?_
        refine wq_istore_n (L' := [some (.ref x0), some (.ref a2), some (.int (0 : Int32))]) (pc := 98) dX8_isName_98 rfl (Nat.le_of_ble_eq_true rfl) rfl ?_
        refine wq_goto (pc := 99) (tgt := 184) dX8_isName_99 rfl ?_
        exact wq_T.less V ⟨rfl, trivial⟩
    by_cases c1 : y6.toInt = 112682
    · refine wq_lookup (pc := 21) (off := 137) (tgt := 158) dX8_isName_21 (by decide) (by rw [c1]; decide) rfl ?_
      have V := V.2.1 c1
      refine wq_aload_n (pc := 158) dX8_isName_158 rfl rfl ?_
      refine wq_ldcS (a := G.2.2.2.2 19) (pc := 159) (gstr_X8_43 G) dX8_isName_159 ?_
      obtain ⟨fs19, w20, V⟩ := V
      refine clq693 (pc := 161) (As := [.ref (G.2.2.2.2 19)]) (st := []) rfl dX8_isName_161 rfl (Nat.le_of_ble_eq_true rfl) w20 V (fun C16 S17 => wx_ki (fun y18 h15 V => ?_))
      refine wq_if_eq (pc := 164) (tgt := 184) dX8_isName_164 rfl (fun c => ?_) (fun c => ?_)
      · have V := V.1 c
        exact wq_T.less V ⟨rfl, trivial⟩
      · have V := V.2 c
        refine wq_iconst (pc := 167) dX8_isName_167 gsti5 ?_
        refine wq_istore_n (L' := [some (.ref x0), some (.ref a2), some (.int (5 : Int32))]) (pc := 168) dX8_isName_168 rfl (Nat.le_of_ble_eq_true rfl) rfl ?_
        refine wq_goto (pc := 169) (tgt := 184) dX8_isName_169 rfl ?_
        exact wq_T.less V ⟨rfl, trivial⟩
    by_cases c2 : y6.toInt = 113291
    · refine wq_lookup (pc := 21) (off := 151) (tgt := 172) dX8_isName_21 (by decide) (by rw [c2]; decide) rfl ?_
      have V := V.2.2.1 c2
      refine wq_aload_n (pc := 172) dX8_isName_172 rfl rfl ?_
      refine wq_ldcS (a := G.2.2.2.2 20) (pc := 173) (gstr_X8_45 G) dX8_isName_173 ?_
      obtain ⟨fs25, w26, V⟩ := V
      refine clq693 (pc := 175) (As := [.ref (G.2.2.2.2 20)]) (st := []) rfl dX8_isName_175 rfl (Nat.le_of_ble_eq_true rfl) w26 V (fun C22 S23 => wx_ki (fun y24 h21 V => ?_))
      refine wq_if_eq (pc := 178) (tgt := 184) dX8_isName_178 rfl (fun c => ?_) (fun c => ?_)
      · have V := V.1 c
        exact wq_T.less V ⟨rfl, trivial⟩
      · have V := V.2 c
        refine wq_bipush (pc := 181) dX8_isName_181 gstb6 ?_
        refine wq_istore_n (L' := [some (.ref x0), some (.ref a2), some (.int (6 : Int32))]) (pc := 183) dX8_isName_183 rfl (Nat.le_of_ble_eq_true rfl) rfl ?_
        exact wq_T.less V ⟨rfl, trivial⟩
    by_cases c3 : y6.toInt = 113762
    · refine wq_lookup (pc := 21) (off := 109) (tgt := 130) dX8_isName_21 (by decide) (by rw [c3]; decide) rfl ?_
      have V := V.2.2.2.1 c3
      refine wq_aload_n (pc := 130) dX8_isName_130 rfl rfl ?_
      refine wq_ldcS (a := G.2.2.2.2 21) (pc := 131) (gstr_X8_39 G) dX8_isName_131 ?_
      obtain ⟨fs31, w32, V⟩ := V
      refine clq693 (pc := 133) (As := [.ref (G.2.2.2.2 21)]) (st := []) rfl dX8_isName_133 rfl (Nat.le_of_ble_eq_true rfl) w32 V (fun C28 S29 => wx_ki (fun y30 h27 V => ?_))
      refine wq_if_eq (pc := 136) (tgt := 184) dX8_isName_136 rfl (fun c => ?_) (fun c => ?_)
      · have V := V.1 c
        exact wq_T.less V ⟨rfl, trivial⟩
      · have V := V.2 c
        refine wq_iconst (pc := 139) dX8_isName_139 gsti3 ?_
        refine wq_istore_n (L' := [some (.ref x0), some (.ref a2), some (.int (3 : Int32))]) (pc := 140) dX8_isName_140 rfl (Nat.le_of_ble_eq_true rfl) rfl ?_
        refine wq_goto (pc := 141) (tgt := 184) dX8_isName_141 rfl ?_
        exact wq_T.less V ⟨rfl, trivial⟩
    by_cases c4 : y6.toInt = 3321844
    · refine wq_lookup (pc := 21) (off := 123) (tgt := 144) dX8_isName_21 (by decide) (by rw [c4]; decide) rfl ?_
      have V := V.2.2.2.2.1 c4
      refine wq_aload_n (pc := 144) dX8_isName_144 rfl rfl ?_
      refine wq_ldcS (a := G.2.2.2.2 14) (pc := 145) (gstr_X8_41 G) dX8_isName_145 ?_
      obtain ⟨fs37, w38, V⟩ := V
      refine clq693 (pc := 147) (As := [.ref (G.2.2.2.2 14)]) (st := []) rfl dX8_isName_147 rfl (Nat.le_of_ble_eq_true rfl) w38 V (fun C34 S35 => wx_ki (fun y36 h33 V => ?_))
      refine wq_if_eq (pc := 150) (tgt := 184) dX8_isName_150 rfl (fun c => ?_) (fun c => ?_)
      · have V := V.1 c
        exact wq_T.less V ⟨rfl, trivial⟩
      · have V := V.2 c
        refine wq_iconst (pc := 153) dX8_isName_153 gsti4 ?_
        refine wq_istore_n (L' := [some (.ref x0), some (.ref a2), some (.int (4 : Int32))]) (pc := 154) dX8_isName_154 rfl (Nat.le_of_ble_eq_true rfl) rfl ?_
        refine wq_goto (pc := 155) (tgt := 184) dX8_isName_155 rfl ?_
        exact wq_T.less V ⟨rfl, trivial⟩
    by_cases c5 : y6.toInt = 3327647
    · refine wq_lookup (pc := 21) (off := 81) (tgt := 102) dX8_isName_21 (by decide) (by rw [c5]; decide) rfl ?_
      have V := V.2.2.2.2.2.1 c5
      refine wq_aload_n (pc := 102) dX8_isName_102 rfl rfl ?_
      refine wq_ldcS (a := G.2.2.2.2 15) (pc := 103) (gstr_X8_35 G) dX8_isName_103 ?_
      obtain ⟨fs43, w44, V⟩ := V
      refine clq693 (pc := 105) (As := [.ref (G.2.2.2.2 15)]) (st := []) rfl dX8_isName_105 rfl (Nat.le_of_ble_eq_true rfl) w44 V (fun C40 S41 => wx_ki (fun y42 h39 V => ?_))
      refine wq_if_eq (pc := 108) (tgt := 184) dX8_isName_108 rfl (fun c => ?_) (fun c => ?_)
      · have V := V.1 c
        exact wq_T.less V ⟨rfl, trivial⟩
      · have V := V.2 c
        refine wq_iconst (pc := 111) dX8_isName_111 gsti1 ?_
        refine wq_istore_n (L' := [some (.ref x0), some (.ref a2), some (.int (1 : Int32))]) (pc := 112) dX8_isName_112 rfl (Nat.le_of_ble_eq_true rfl) rfl ?_
        refine wq_goto (pc := 113) (tgt := 184) dX8_isName_113 rfl ?_
        exact wq_T.less V ⟨rfl, trivial⟩
    by_cases c6 : y6.toInt = 106845584
    · refine wq_lookup (pc := 21) (off := 95) (tgt := 116) dX8_isName_21 (by decide) (by rw [c6]; decide) rfl ?_
      have V := V.2.2.2.2.2.2.1 c6
      refine wq_aload_n (pc := 116) dX8_isName_116 rfl rfl ?_
      refine wq_ldcS (a := G.2.2.2.2 18) (pc := 117) (gstr_X8_37 G) dX8_isName_117 ?_
      obtain ⟨fs49, w50, V⟩ := V
      refine clq693 (pc := 119) (As := [.ref (G.2.2.2.2 18)]) (st := []) rfl dX8_isName_119 rfl (Nat.le_of_ble_eq_true rfl) w50 V (fun C46 S47 => wx_ki (fun y48 h45 V => ?_))
      refine wq_if_eq (pc := 122) (tgt := 184) dX8_isName_122 rfl (fun c => ?_) (fun c => ?_)
      · have V := V.1 c
        exact wq_T.less V ⟨rfl, trivial⟩
      · have V := V.2 c
        refine wq_iconst (pc := 125) dX8_isName_125 gsti2 ?_
        refine wq_istore_n (L' := [some (.ref x0), some (.ref a2), some (.int (2 : Int32))]) (pc := 126) dX8_isName_126 rfl (Nat.le_of_ble_eq_true rfl) rfl ?_
        refine wq_goto (pc := 127) (tgt := 184) dX8_isName_127 rfl ?_
        exact wq_T.less V ⟨rfl, trivial⟩
    refine wq_lookup (pc := 21) (off := 163) (tgt := 184) dX8_isName_21 (by decide) (by simp [Op.lookupswitch.offset, Ne.symm c0, Ne.symm c1, Ne.symm c2, Ne.symm c3, Ne.symm c4, Ne.symm c5, Ne.symm c6]) rfl ?_
    have V := V.2.2.2.2.2.2.2 ⟨c0, c1, c2, c3, c4, c5, c6⟩
    exact wq_T.less V ⟨rfl, trivial⟩
  · have V := V.2 c
    refine wq_iconst (pc := 8) dX8_isName_8 gsti0 ?_
    refine wq_zret (pc := 9) dX8_isName_9 rfl gn_b0 ⟨_, rfl, V⟩
theorem vX8_isName_184 {G : wq_G} {l : Launch} {d C S : Nat} {K : Int32 → wq_H → Prop} {x2 : Int32} {h : wq_H} (V : (x2.toInt < 0 ∨ 6 < x2.toInt → K (1 : Int32) h) ∧ (x2.toInt = 0 → K (0 : Int32) h) ∧ (x2.toInt = 1 → K (0 : Int32) h) ∧ (x2.toInt = 2 → K (0 : Int32) h) ∧ (x2.toInt = 3 → K (0 : Int32) h) ∧ (x2.toInt = 4 → K (0 : Int32) h) ∧ (x2.toInt = 5 → K (0 : Int32) h) ∧ (x2.toInt = 6 → K (0 : Int32) h)) : wq_T G l d mX8_isName (wq_qi K) 184 [none, none, some (.int x2)] [] h C S := by
  refine wq_iload_n (pc := 184) dX8_isName_184 rfl rfl ?_
  by_cases c : x2.toInt < 0 ∨ 6 < x2.toInt
  · refine wq_tableOut (pc := 185) (tgt := 230) dX8_isName_185 c rfl ?_
    have V := V.1 c
    refine wq_iconst (pc := 230) dX8_isName_230 gsti1 ?_
    refine wq_zret (pc := 231) dX8_isName_231 rfl gn_b1 ⟨_, rfl, V⟩
  by_cases c0 : x2.toInt = 0
  · refine wq_tableIn (pc := 185) (off := 43) (tgt := 228) dX8_isName_185 (by omega) (by omega) (by rw [c0]; rfl) rfl ?_
    have V := V.2.1 c0
    refine wq_iconst (pc := 228) dX8_isName_228 gsti0 ?_
    refine wq_zret (pc := 229) dX8_isName_229 rfl gn_b0 ⟨_, rfl, V⟩
  by_cases c1 : x2.toInt = 1
  · refine wq_tableIn (pc := 185) (off := 43) (tgt := 228) dX8_isName_185 (by omega) (by omega) (by rw [c1]; rfl) rfl ?_
    have V := V.2.2.1 c1
    refine wq_iconst (pc := 228) dX8_isName_228 gsti0 ?_
    refine wq_zret (pc := 229) dX8_isName_229 rfl gn_b0 ⟨_, rfl, V⟩
  by_cases c2 : x2.toInt = 2
  · refine wq_tableIn (pc := 185) (off := 43) (tgt := 228) dX8_isName_185 (by omega) (by omega) (by rw [c2]; rfl) rfl ?_
    have V := V.2.2.2.1 c2
    refine wq_iconst (pc := 228) dX8_isName_228 gsti0 ?_
    refine wq_zret (pc := 229) dX8_isName_229 rfl gn_b0 ⟨_, rfl, V⟩
  by_cases c3 : x2.toInt = 3
  · refine wq_tableIn (pc := 185) (off := 43) (tgt := 228) dX8_isName_185 (by omega) (by omega) (by rw [c3]; rfl) rfl ?_
    have V := V.2.2.2.2.1 c3
    refine wq_iconst (pc := 228) dX8_isName_228 gsti0 ?_
    refine wq_zret (pc := 229) dX8_isName_229 rfl gn_b0 ⟨_, rfl, V⟩
  by_cases c4 : x2.toInt = 4
  · refine wq_tableIn (pc := 185) (off := 43) (tgt := 228) dX8_isName_185 (by omega) (by omega) (by rw [c4]; rfl) rfl ?_
    have V := V.2.2.2.2.2.1 c4
    refine wq_iconst (pc := 228) dX8_isName_228 gsti0 ?_
    refine wq_zret (pc := 229) dX8_isName_229 rfl gn_b0 ⟨_, rfl, V⟩
  by_cases c5 : x2.toInt = 5
  · refine wq_tableIn (pc := 185) (off := 43) (tgt := 228) dX8_isName_185 (by omega) (by omega) (by rw [c5]; rfl) rfl ?_
    have V := V.2.2.2.2.2.2.1 c5
    refine wq_iconst (pc := 228) dX8_isName_228 gsti0 ?_
    refine wq_zret (pc := 229) dX8_isName_229 rfl gn_b0 ⟨_, rfl, V⟩
  have c6 : x2.toInt = 6 := by omega
  · refine wq_tableIn (pc := 185) (off := 43) (tgt := 228) dX8_isName_185 (by omega) (by omega) (by rw [c6]; rfl) rfl ?_
    have V := V.2.2.2.2.2.2.2 c6
    refine wq_iconst (pc := 228) dX8_isName_228 gsti0 ?_
    refine wq_zret (pc := 229) dX8_isName_229 rfl gn_b0 ⟨_, rfl, V⟩
theorem vX8_isSign_0 {G : wq_G} {l : Launch} {d C S : Nat} {K : Int32 → wq_H → Prop} {x0 : Nat} {x1 : Int32} {h : wq_H} (V : wq_gI h x0 [(7, 0)] (fun y1 => (¬ y1 = (4 : Int32) → K (0 : Int32) h) ∧ (y1 = (4 : Int32) → wq_gI h x0 [(7, 2)] (fun y2 => (¬ y2 = x1 → K (0 : Int32) h) ∧ (y2 = x1 → K (1 : Int32) h))))) : wq_T G l d mX8_isSign (wq_qi K) 0 [some (.ref x0), some (.int x1)] [] h C S := by
  refine wq_aload_n (pc := 0) dX8_isSign_0 rfl rfl ?_
  refine gfq360 (pc := 1) rfl dX8_isSign_1 V (fun y1 V => ?_)
  refine wq_iconst (pc := 4) dX8_isSign_4 gsti4 ?_
  refine wq_icmp_ne (pc := 5) (tgt := 20) dX8_isSign_5 rfl (fun c => ?_) (fun c => ?_)
  · have V := V.1 c
    refine wq_iconst (pc := 20) dX8_isSign_20 gsti0 ?_
    refine wq_zret (pc := 21) dX8_isSign_21 rfl gn_b0 ⟨_, rfl, V⟩
  · have V := V.2 c
    refine wq_aload_n (pc := 8) dX8_isSign_8 rfl rfl ?_
    refine gfq364 (pc := 9) rfl dX8_isSign_9 V (fun y2 V => ?_)
    refine wq_iload_n (pc := 12) dX8_isSign_12 rfl rfl ?_
    refine wq_icmp_ne (pc := 13) (tgt := 20) dX8_isSign_13 rfl (fun c => ?_) (fun c => ?_)
    · have V := V.1 c
      refine wq_iconst (pc := 20) dX8_isSign_20 gsti0 ?_
      refine wq_zret (pc := 21) dX8_isSign_21 rfl gn_b0 ⟨_, rfl, V⟩
    · have V := V.2 c
      refine wq_iconst (pc := 16) dX8_isSign_16 gsti1 ?_
      refine wq_goto (pc := 17) (tgt := 21) dX8_isSign_17 rfl ?_
      refine wq_zret (pc := 21) dX8_isSign_21 rfl gn_b1 ⟨_, rfl, V⟩
theorem vX9_init_0 {G : wq_G} {l : Launch} {d C S : Nat} {K : wq_H → Prop} (hd1 : 1 ≤ d) {x0 : Nat} {h : wq_H} (V : wq_na G h (.inl (G.2.2.1 0, 4, .inl (fun _ => 0))) (4 : Int32) 4 C S (fun a1 h2 => wq_pf G h2 x0 [(8, 0), (9, 0)] (.ref a1) (fun h3 => wq_na G h3 (.inl (G.2.2.1 0, 4, .inl (fun _ => 0))) (4 : Int32) 4 (C - 1) (S - 4) (fun a4 h5 => wq_pf G h5 x0 [(8, 1), (9, 1)] (.ref a4) (fun h6 => K h6))))) : wq_T G l d mX9_init (wq_qv K) 0 [some (.ref x0)] [] h C S := by
  refine wq_aload_n (pc := 0) dX9_init_0 rfl rfl ?_
  refine wq_objInit (pc := 1) q829 q157 q158 dX9_init_1 (Nat.le_of_ble_eq_true rfl) hd1 ?_
  refine wq_aload_n (pc := 4) dX9_init_4 rfl rfl ?_
  refine wq_iconst (pc := 5) dX9_init_5 gsti4 ?_
  refine wx_nI (pc := 6) q187 dX9_init_6 V (fun a1 h2 V => ?_)
  refine pfq831 (pc := 8) rfl rfl dX9_init_8 (wq_nfr rfl (some a1)) V (fun h3 V => ?_)
  refine wq_aload_n (pc := 11) dX9_init_11 rfl rfl ?_
  refine wq_iconst (pc := 12) dX9_init_12 gsti4 ?_
  refine wx_nI (pc := 13) q187 dX9_init_13 V (fun a4 h5 V => ?_)
  refine pfq841 (pc := 15) rfl rfl dX9_init_15 (wq_nfr rfl (some a4)) V (fun h6 V => ?_)
  refine wq_vret (pc := 18) dX9_init_18 rfl ⟨rfl, V⟩
theorem vX9_copy_0 {G : wq_G} {l : Launch} {d C S : Nat} {K : Option Nat → wq_H → Prop} (hd1 : 1 ≤ d) {x0 : Nat} {x1 : Int32} {h : wq_H} (V : (∃ fs5 : List Value, h x0 = some (.inr (8, fs5)) ∧ wq_cq G l d C S mX10_fresh [.ref x0] h (fun r4 h1 C2 S3 => wq_gR h1 x0 [(8, 0), (9, 0)] (fun a7 => ∃ a8, r4 = some a8 ∧ (wq_gR h1 a8 [(8, 0), (9, 0)] (fun a10 => wq_cpI G h1 a7 (0 : Int32) a10 (0 : Int32) (4 : Int32) (fun h11 => (x1 = 0 → K (some a8) h11) ∧ (¬ x1 = 0 → wq_gR h11 x0 [(8, 1), (9, 1)] (fun a12 => wq_gR h11 a8 [(8, 1), (9, 1)] (fun a13 => wq_cpI G h11 a12 (0 : Int32) a13 (0 : Int32) (4 : Int32) (fun h14 => K (some a8) h14)))))))))) ∨ (∃ fs5 : List Value, h x0 = some (.inr (9, fs5)) ∧ wq_cq G l d C S mX11_fresh [.ref x0] h (fun r4 h1 C2 S3 => wq_gR h1 x0 [(8, 0), (9, 0)] (fun a7 => ∃ a8, r4 = some a8 ∧ (wq_gR h1 a8 [(8, 0), (9, 0)] (fun a10 => wq_cpI G h1 a7 (0 : Int32) a10 (0 : Int32) (4 : Int32) (fun h11 => (x1 = 0 → K (some a8) h11) ∧ (¬ x1 = 0 → wq_gR h11 x0 [(8, 1), (9, 1)] (fun a12 => wq_gR h11 a8 [(8, 1), (9, 1)] (fun a13 => wq_cpI G h11 a12 (0 : Int32) a13 (0 : Int32) (4 : Int32) (fun h14 => K (some a8) h14))))))))))) : wq_T G l d mX9_copy (wq_qq K) 0 [some (.ref x0), some (.int x1), none] [] h C S := by
  refine wq_aload_n (pc := 0) dX9_copy_0 rfl rfl ?_
  have T : ∀ C2 S3 r4 h1, (wq_gR h1 x0 [(8, 0), (9, 0)] (fun a7 => ∃ a8, r4 = some a8 ∧ (wq_gR h1 a8 [(8, 0), (9, 0)] (fun a10 => wq_cpI G h1 a7 (0 : Int32) a10 (0 : Int32) (4 : Int32) (fun h11 => (x1 = 0 → K (some a8) h11) ∧ (¬ x1 = 0 → wq_gR h11 x0 [(8, 1), (9, 1)] (fun a12 => wq_gR h11 a8 [(8, 1), (9, 1)] (fun a13 => wq_cpI G h11 a12 (0 : Int32) a13 (0 : Int32) (4 : Int32) (fun h14 => K (some a8) h14))))))))) → wq_T G l d mX9_copy (wq_qq K) 4 [some (.ref x0), some (.int x1), none] [va_rf r4] h1 C2 S3 := by
    intro C2 S3 r4 h1 V
    refine wq_astore_nQ (L' := [some (.ref x0), some (.int x1), some (va_rf r4)]) (pc := 4) dX9_copy_4 rfl (Nat.le_of_ble_eq_true rfl) rfl ?_
    refine wq_aload_n (pc := 5) dX9_copy_5 rfl rfl ?_
    refine gfq831 (pc := 6) rfl dX9_copy_6 V (fun a7 V => ?_)
    refine wq_iconst (pc := 9) dX9_copy_9 gsti0 ?_
    refine wq_aload_nQ (pc := 10) dX9_copy_10 rfl rfl ?_
    obtain ⟨a8, w9, V⟩ := V
    rw [w9]
    refine gfq831 (pc := 11) rfl dX9_copy_11 V (fun a10 V => ?_)
    refine wq_iconst (pc := 14) dX9_copy_14 gsti0 ?_
    refine wq_iconst (pc := 15) dX9_copy_15 gsti4 ?_
    refine wx_cpI (pc := 16) (by exact q971) dX9_copy_16 (Nat.le_of_ble_eq_true rfl) hd1 V (fun h11 V => ?_)
    refine wq_iload_n (pc := 19) dX9_copy_19 rfl rfl ?_
    refine wq_if_eq (pc := 20) (tgt := 37) dX9_copy_20 rfl (fun c => ?_) (fun c => ?_)
    · have V := V.1 c
      refine wq_aload_n (pc := 37) dX9_copy_37 rfl rfl ?_
      refine wq_aret (r := (some a8)) (pc := 38) dX9_copy_38 rfl rfl ⟨_, rfl, V⟩
    · have V := V.2 c
      refine wq_aload_n (pc := 23) dX9_copy_23 rfl rfl ?_
      refine gfq841 (pc := 24) rfl dX9_copy_24 V (fun a12 V => ?_)
      refine wq_iconst (pc := 27) dX9_copy_27 gsti0 ?_
      refine wq_aload_n (pc := 28) dX9_copy_28 rfl rfl ?_
      refine gfq841 (pc := 29) rfl dX9_copy_29 V (fun a13 V => ?_)
      refine wq_iconst (pc := 32) dX9_copy_32 gsti0 ?_
      refine wq_iconst (pc := 33) dX9_copy_33 gsti4 ?_
      refine wx_cpI (pc := 34) (by exact q971) dX9_copy_34 (Nat.le_of_ble_eq_true rfl) hd1 V (fun h14 V => ?_)
      refine wq_aload_n (pc := 37) dX9_copy_37 rfl rfl ?_
      refine wq_aret (r := (some a8)) (pc := 38) dX9_copy_38 rfl rfl ⟨_, rfl, V⟩
  rcases V with ⟨fs5, w6, V⟩ | ⟨fs5, w6, V⟩
  · exact clq958_8 (pc := 1) (As := []) (st := []) rfl dX9_copy_1 rfl (Nat.le_of_ble_eq_true rfl) w6 V (fun C2 S3 => wx_kq (fun r4 h1 V => T C2 S3 r4 h1 V))
  · exact clq958_9 (pc := 1) (As := []) (st := []) rfl dX9_copy_1 rfl (Nat.le_of_ble_eq_true rfl) w6 V (fun C2 S3 => wx_kq (fun r4 h1 V => T C2 S3 r4 h1 V))
theorem vX9_isPossible_0 {G : wq_G} {l : Launch} {d C S : Nat} {K : Int32 → wq_H → Prop} {x0 : Nat} {x1 : Int32} {h : wq_H} (V : wq_gR h x0 [(8, 0), (9, 0)] (fun a1 => wq_ai G h a1 x1 (fun y2 => (y2 ≤ 0 → K (0 : Int32) h) ∧ (¬ y2 ≤ 0 → K (1 : Int32) h)))) : wq_T G l d mX9_isPossible (wq_qi K) 0 [some (.ref x0), some (.int x1)] [] h C S := by
  refine wq_aload_n (pc := 0) dX9_isPossible_0 rfl rfl ?_
  refine gfq831 (pc := 1) rfl dX9_isPossible_1 V (fun a1 V => ?_)
  refine wq_iload_n (pc := 4) dX9_isPossible_4 rfl rfl ?_
  refine wx_ai (pc := 5) dX9_isPossible_5 V (fun y2 V => ?_)
  refine wq_if_le (pc := 6) (tgt := 13) dX9_isPossible_6 rfl (fun c => ?_) (fun c => ?_)
  · have V := V.1 c
    refine wq_iconst (pc := 13) dX9_isPossible_13 gsti0 ?_
    refine wq_zret (pc := 14) dX9_isPossible_14 rfl gn_b0 ⟨_, rfl, V⟩
  · have V := V.2 c
    refine wq_iconst (pc := 9) dX9_isPossible_9 gsti1 ?_
    refine wq_goto (pc := 10) (tgt := 14) dX9_isPossible_10 rfl ?_
    refine wq_zret (pc := 14) dX9_isPossible_14 rfl gn_b1 ⟨_, rfl, V⟩
theorem vX9_isOf_0 {G : wq_G} {l : Launch} {d C S : Nat} {K : Int32 → wq_H → Prop} {x0 : Nat} {x1 : Int32} {h : wq_H} (V : (∃ fs5 : List Value, h x0 = some (.inr (8, fs5)) ∧ wq_ci G l d C S mX10_first [.ref x0] h (fun y4 h1 C2 S3 => (y4 = x1 → K (1 : Int32) h1) ∧ (¬ y4 = x1 → (∃ fs11 : List Value, h1 x0 = some (.inr (8, fs11)) ∧ wq_ci G l d C2 S3 mX10_second [.ref x0] h1 (fun y10 h7 C8 S9 => (¬ y10 = x1 → K (0 : Int32) h7) ∧ (y10 = x1 → K (1 : Int32) h7))) ∨ (∃ fs11 : List Value, h1 x0 = some (.inr (9, fs11)) ∧ wq_ci G l d C2 S3 mX11_second [.ref x0] h1 (fun y10 h7 C8 S9 => (¬ y10 = x1 → K (0 : Int32) h7) ∧ (y10 = x1 → K (1 : Int32) h7)))))) ∨ (∃ fs5 : List Value, h x0 = some (.inr (9, fs5)) ∧ wq_ci G l d C S mX11_first [.ref x0] h (fun y4 h1 C2 S3 => (y4 = x1 → K (1 : Int32) h1) ∧ (¬ y4 = x1 → (∃ fs11 : List Value, h1 x0 = some (.inr (8, fs11)) ∧ wq_ci G l d C2 S3 mX10_second [.ref x0] h1 (fun y10 h7 C8 S9 => (¬ y10 = x1 → K (0 : Int32) h7) ∧ (y10 = x1 → K (1 : Int32) h7))) ∨ (∃ fs11 : List Value, h1 x0 = some (.inr (9, fs11)) ∧ wq_ci G l d C2 S3 mX11_second [.ref x0] h1 (fun y10 h7 C8 S9 => (¬ y10 = x1 → K (0 : Int32) h7) ∧ (y10 = x1 → K (1 : Int32) h7))))))) : wq_T G l d mX9_isOf (wq_qi K) 0 [some (.ref x0), some (.int x1)] [] h C S := by
  refine wq_aload_n (pc := 0) dX9_isOf_0 rfl rfl ?_
  have T : ∀ C2 S3 y4 h1, ((y4 = x1 → K (1 : Int32) h1) ∧ (¬ y4 = x1 → (∃ fs11 : List Value, h1 x0 = some (.inr (8, fs11)) ∧ wq_ci G l d C2 S3 mX10_second [.ref x0] h1 (fun y10 h7 C8 S9 => (¬ y10 = x1 → K (0 : Int32) h7) ∧ (y10 = x1 → K (1 : Int32) h7))) ∨ (∃ fs11 : List Value, h1 x0 = some (.inr (9, fs11)) ∧ wq_ci G l d C2 S3 mX11_second [.ref x0] h1 (fun y10 h7 C8 S9 => (¬ y10 = x1 → K (0 : Int32) h7) ∧ (y10 = x1 → K (1 : Int32) h7))))) → wq_T G l d mX9_isOf (wq_qi K) 4 [some (.ref x0), some (.int x1)] [.int y4] h1 C2 S3 := by
    intro C2 S3 y4 h1 V
    refine wq_iload_n (pc := 4) dX9_isOf_4 rfl rfl ?_
    refine wq_icmp_eq (pc := 5) (tgt := 16) dX9_isOf_5 rfl (fun c => ?_) (fun c => ?_)
    · have V := V.1 c
      refine wq_iconst (pc := 16) dX9_isOf_16 gsti1 ?_
      refine wq_goto (pc := 17) (tgt := 21) dX9_isOf_17 rfl ?_
      refine wq_zret (pc := 21) dX9_isOf_21 rfl gn_b1 ⟨_, rfl, V⟩
    · have V := V.2 c
      refine wq_aload_n (pc := 8) dX9_isOf_8 rfl rfl ?_
      have T : ∀ C8 S9 y10 h7, ((¬ y10 = x1 → K (0 : Int32) h7) ∧ (y10 = x1 → K (1 : Int32) h7)) → wq_T G l d mX9_isOf (wq_qi K) 12 [some (.ref x0), some (.int x1)] [.int y10] h7 C8 S9 := by
        intro C8 S9 y10 h7 V
        refine wq_iload_n (pc := 12) dX9_isOf_12 rfl rfl ?_
        refine wq_icmp_ne (pc := 13) (tgt := 20) dX9_isOf_13 rfl (fun c => ?_) (fun c => ?_)
        · have V := V.1 c
          refine wq_iconst (pc := 20) dX9_isOf_20 gsti0 ?_
          refine wq_zret (pc := 21) dX9_isOf_21 rfl gn_b0 ⟨_, rfl, V⟩
        · have V := V.2 c
          refine wq_iconst (pc := 16) dX9_isOf_16 gsti1 ?_
          refine wq_goto (pc := 17) (tgt := 21) dX9_isOf_17 rfl ?_
          refine wq_zret (pc := 21) dX9_isOf_21 rfl gn_b1 ⟨_, rfl, V⟩
      rcases V with ⟨fs11, w12, V⟩ | ⟨fs11, w12, V⟩
      · exact clq1151_8 (pc := 9) (As := []) (st := []) rfl dX9_isOf_9 rfl (Nat.le_of_ble_eq_true rfl) w12 V (fun C8 S9 => wx_ki (fun y10 h7 V => T C8 S9 y10 h7 V))
      · exact clq1151_9 (pc := 9) (As := []) (st := []) rfl dX9_isOf_9 rfl (Nat.le_of_ble_eq_true rfl) w12 V (fun C8 S9 => wx_ki (fun y10 h7 V => T C8 S9 y10 h7 V))
  rcases V with ⟨fs5, w6, V⟩ | ⟨fs5, w6, V⟩
  · exact clq1142_8 (pc := 1) (As := []) (st := []) rfl dX9_isOf_1 rfl (Nat.le_of_ble_eq_true rfl) w6 V (fun C2 S3 => wx_ki (fun y4 h1 V => T C2 S3 y4 h1 V))
  · exact clq1142_9 (pc := 1) (As := []) (st := []) rfl dX9_isOf_1 rfl (Nat.le_of_ble_eq_true rfl) w6 V (fun C2 S3 => wx_ki (fun y4 h1 V => T C2 S3 y4 h1 V))
theorem vX9_same_0 {G : wq_G} {l : Launch} {d C S : Nat} {K : Int32 → wq_H → Prop} {x0 : Nat} {h : wq_H} (V : K (0 : Int32) h) : wq_T G l d mX9_same (wq_qi K) 0 [some (.ref x0)] [] h C S := by
  refine wq_iconst (pc := 0) dX9_same_0 gsti0 ?_
  refine wq_iret (pc := 1) dX9_same_1 rfl ⟨_, rfl, V⟩
theorem vX9_looks_0 {G : wq_G} {l : Launch} {d C S : Nat} {K : Int32 → wq_H → Prop} {x0 : Nat} {h : wq_H} (V : (∃ fs5 : List Value, h x0 = some (.inr (8, fs5)) ∧ wq_ci G l d C S mX10_first [.ref x0] h (fun y4 h1 C2 S3 => K ((1 : Int32) <<< (y4 &&& 31)) h1)) ∨ (∃ fs5 : List Value, h x0 = some (.inr (9, fs5)) ∧ wq_ci G l d C S mX11_first [.ref x0] h (fun y4 h1 C2 S3 => K ((1 : Int32) <<< (y4 &&& 31)) h1))) : wq_T G l d mX9_looks (wq_qi K) 0 [some (.ref x0)] [] h C S := by
  refine wq_iconst (pc := 0) dX9_looks_0 gsti1 ?_
  refine wq_aload_n (pc := 1) dX9_looks_1 rfl rfl ?_
  have T : ∀ C2 S3 y4 h1, (K ((1 : Int32) <<< (y4 &&& 31)) h1) → wq_T G l d mX9_looks (wq_qi K) 5 [some (.ref x0)] [.int y4, .int (1 : Int32)] h1 C2 S3 := by
    intro C2 S3 y4 h1 V
    refine wq_ishl (pc := 5) dX9_looks_5 ?_
    refine wq_iret (pc := 6) dX9_looks_6 rfl ⟨_, rfl, V⟩
  rcases V with ⟨fs5, w6, V⟩ | ⟨fs5, w6, V⟩
  · exact clq1142_8 (pc := 2) (As := []) (st := [.int (1 : Int32)]) rfl dX9_looks_2 rfl (Nat.le_of_ble_eq_true rfl) w6 V (fun C2 S3 => wx_ki (fun y4 h1 V => T C2 S3 y4 h1 V))
  · exact clq1142_9 (pc := 2) (As := []) (st := [.int (1 : Int32)]) rfl dX9_looks_2 rfl (Nat.le_of_ble_eq_true rfl) w6 V (fun C2 S3 => wx_ki (fun y4 h1 V => T C2 S3 y4 h1 V))
theorem vX9_flips_0 {G : wq_G} {l : Launch} {d C S : Nat} {K : wq_H → Prop} {x0 : Nat} {x1 : Int32} {h : wq_H} (V : (∃ fs5 : List Value, h x0 = some (.inr (8, fs5)) ∧ wq_cq G l d C S mX9_copy [.ref x0, .int (1 : Int32)] h (fun r4 h1 C2 S3 => wq_T G l d mX9_flips (wq_qv K) 8 [some (.ref x0), some (.int x1), some (va_rf r4), some (.int (0 : Int32))] [] h1 C2 S3)) ∨ (∃ fs5 : List Value, h x0 = some (.inr (9, fs5)) ∧ wq_cq G l d C S mX9_copy [.ref x0, .int (1 : Int32)] h (fun r4 h1 C2 S3 => wq_T G l d mX9_flips (wq_qv K) 8 [some (.ref x0), some (.int x1), some (va_rf r4), some (.int (0 : Int32))] [] h1 C2 S3))) : wq_T G l d mX9_flips (wq_qv K) 0 [some (.ref x0), some (.int x1), none, none] [] h C S := by
  refine wq_aload_n (pc := 0) dX9_flips_0 rfl rfl ?_
  refine wq_iconst (pc := 1) dX9_flips_1 gsti1 ?_
  have T : ∀ C2 S3 r4 h1, (wq_T G l d mX9_flips (wq_qv K) 8 [some (.ref x0), some (.int x1), some (va_rf r4), some (.int (0 : Int32))] [] h1 C2 S3) → wq_T G l d mX9_flips (wq_qv K) 5 [some (.ref x0), some (.int x1), none, none] [va_rf r4] h1 C2 S3 := by
    intro C2 S3 r4 h1 V
    refine wq_astore_nQ (L' := [some (.ref x0), some (.int x1), some (va_rf r4), none]) (pc := 5) dX9_flips_5 rfl (Nat.le_of_ble_eq_true rfl) rfl ?_
    refine wq_iconst (pc := 6) dX9_flips_6 gsti0 ?_
    refine wq_istore_n (L' := [some (.ref x0), some (.int x1), some (va_rf r4), some (.int (0 : Int32))]) (pc := 7) dX9_flips_7 rfl (Nat.le_of_ble_eq_true rfl) (by simp [wq_s1, wq_cl, wq_cat1]) ?_
    exact wq_T.less V ⟨rfl, ⟨rfl, ⟨rfl, ⟨rfl, trivial⟩⟩⟩⟩
  rcases V with ⟨fs5, w6, V⟩ | ⟨fs5, w6, V⟩
  · exact clq1529_8 (pc := 2) (As := [.int (1 : Int32)]) (st := []) rfl dX9_flips_2 rfl (Nat.le_of_ble_eq_true rfl) w6 V (fun C2 S3 => wx_kq (fun r4 h1 V => T C2 S3 r4 h1 V))
  · exact clq1529_9 (pc := 2) (As := [.int (1 : Int32)]) (st := []) rfl dX9_flips_2 rfl (Nat.le_of_ble_eq_true rfl) w6 V (fun C2 S3 => wx_kq (fun r4 h1 V => T C2 S3 r4 h1 V))
theorem vX9_flips_8 {G : wq_G} {l : Launch} {d C S : Nat} {K : wq_H → Prop} {x0 : Nat} {x1 : Int32} {x2 : Option Nat} {x3 : Int32} {h : wq_H} (V : (∃ fs5 : List Value, h x0 = some (.inr (8, fs5)) ∧ wq_ci G l d C S mX10_outcomes [.ref x0] h (fun y4 h1 C2 S3 => (y4 ≤ x3 → K h1) ∧ (¬ y4 ≤ x3 → wq_gR h1 x0 [(8, 0), (9, 0)] (fun a7 => (∃ fs12 : List Value, h1 x0 = some (.inr (8, fs12)) ∧ wq_ci G l d C2 S3 mX10_flipped [.ref x0, .int x3, .int x1] h1 (fun y11 h8 C9 S10 => ∃ a14, x2 = some a14 ∧ (wq_gR h8 a14 [(8, 0), (9, 0)] (fun a16 => wq_ai G h8 a16 x3 (fun y17 => wq_si G h8 a7 y11 y17 (fun h18 => wq_gR h18 x0 [(8, 1), (9, 1)] (fun a19 => (∃ fs24 : List Value, h18 x0 = some (.inr (8, fs24)) ∧ wq_ci G l d C9 S10 mX10_flipped [.ref x0, .int x3, .int x1] h18 (fun y23 h20 C21 S22 => wq_gR h20 a14 [(8, 1), (9, 1)] (fun a26 => wq_ai G h20 a26 x3 (fun y27 => wq_si G h20 a19 y23 y27 (fun h28 => wq_T G l d mX9_flips (wq_qv K) 8 [some (.ref x0), some (.int x1), some (va_rf (some a14)), some (.int (x3 + (1 : Int32)))] [] h28 C21 S22))))) ∨ (∃ fs24 : List Value, h18 x0 = some (.inr (9, fs24)) ∧ wq_ci G l d C9 S10 mX11_flipped [.ref x0, .int x3, .int x1] h18 (fun y23 h20 C21 S22 => wq_gR h20 a14 [(8, 1), (9, 1)] (fun a26 => wq_ai G h20 a26 x3 (fun y27 => wq_si G h20 a19 y23 y27 (fun h28 => wq_T G l d mX9_flips (wq_qv K) 8 [some (.ref x0), some (.int x1), some (va_rf (some a14)), some (.int (x3 + (1 : Int32)))] [] h28 C21 S22)))))))))))) ∨ (∃ fs12 : List Value, h1 x0 = some (.inr (9, fs12)) ∧ wq_ci G l d C2 S3 mX11_flipped [.ref x0, .int x3, .int x1] h1 (fun y11 h8 C9 S10 => ∃ a14, x2 = some a14 ∧ (wq_gR h8 a14 [(8, 0), (9, 0)] (fun a16 => wq_ai G h8 a16 x3 (fun y17 => wq_si G h8 a7 y11 y17 (fun h18 => wq_gR h18 x0 [(8, 1), (9, 1)] (fun a19 => (∃ fs24 : List Value, h18 x0 = some (.inr (8, fs24)) ∧ wq_ci G l d C9 S10 mX10_flipped [.ref x0, .int x3, .int x1] h18 (fun y23 h20 C21 S22 => wq_gR h20 a14 [(8, 1), (9, 1)] (fun a26 => wq_ai G h20 a26 x3 (fun y27 => wq_si G h20 a19 y23 y27 (fun h28 => wq_T G l d mX9_flips (wq_qv K) 8 [some (.ref x0), some (.int x1), some (va_rf (some a14)), some (.int (x3 + (1 : Int32)))] [] h28 C21 S22))))) ∨ (∃ fs24 : List Value, h18 x0 = some (.inr (9, fs24)) ∧ wq_ci G l d C9 S10 mX11_flipped [.ref x0, .int x3, .int x1] h18 (fun y23 h20 C21 S22 => wq_gR h20 a14 [(8, 1), (9, 1)] (fun a26 => wq_ai G h20 a26 x3 (fun y27 => wq_si G h20 a19 y23 y27 (fun h28 => wq_T G l d mX9_flips (wq_qv K) 8 [some (.ref x0), some (.int x1), some (va_rf (some a14)), some (.int (x3 + (1 : Int32)))] [] h28 C21 S22)))))))))))))))) ∨ (∃ fs5 : List Value, h x0 = some (.inr (9, fs5)) ∧ wq_ci G l d C S mX11_outcomes [.ref x0] h (fun y4 h1 C2 S3 => (y4 ≤ x3 → K h1) ∧ (¬ y4 ≤ x3 → wq_gR h1 x0 [(8, 0), (9, 0)] (fun a7 => (∃ fs12 : List Value, h1 x0 = some (.inr (8, fs12)) ∧ wq_ci G l d C2 S3 mX10_flipped [.ref x0, .int x3, .int x1] h1 (fun y11 h8 C9 S10 => ∃ a14, x2 = some a14 ∧ (wq_gR h8 a14 [(8, 0), (9, 0)] (fun a16 => wq_ai G h8 a16 x3 (fun y17 => wq_si G h8 a7 y11 y17 (fun h18 => wq_gR h18 x0 [(8, 1), (9, 1)] (fun a19 => (∃ fs24 : List Value, h18 x0 = some (.inr (8, fs24)) ∧ wq_ci G l d C9 S10 mX10_flipped [.ref x0, .int x3, .int x1] h18 (fun y23 h20 C21 S22 => wq_gR h20 a14 [(8, 1), (9, 1)] (fun a26 => wq_ai G h20 a26 x3 (fun y27 => wq_si G h20 a19 y23 y27 (fun h28 => wq_T G l d mX9_flips (wq_qv K) 8 [some (.ref x0), some (.int x1), some (va_rf (some a14)), some (.int (x3 + (1 : Int32)))] [] h28 C21 S22))))) ∨ (∃ fs24 : List Value, h18 x0 = some (.inr (9, fs24)) ∧ wq_ci G l d C9 S10 mX11_flipped [.ref x0, .int x3, .int x1] h18 (fun y23 h20 C21 S22 => wq_gR h20 a14 [(8, 1), (9, 1)] (fun a26 => wq_ai G h20 a26 x3 (fun y27 => wq_si G h20 a19 y23 y27 (fun h28 => wq_T G l d mX9_flips (wq_qv K) 8 [some (.ref x0), some (.int x1), some (va_rf (some a14)), some (.int (x3 + (1 : Int32)))] [] h28 C21 S22)))))))))))) ∨ (∃ fs12 : List Value, h1 x0 = some (.inr (9, fs12)) ∧ wq_ci G l d C2 S3 mX11_flipped [.ref x0, .int x3, .int x1] h1 (fun y11 h8 C9 S10 => ∃ a14, x2 = some a14 ∧ (wq_gR h8 a14 [(8, 0), (9, 0)] (fun a16 => wq_ai G h8 a16 x3 (fun y17 => wq_si G h8 a7 y11 y17 (fun h18 => wq_gR h18 x0 [(8, 1), (9, 1)] (fun a19 => (∃ fs24 : List Value, h18 x0 = some (.inr (8, fs24)) ∧ wq_ci G l d C9 S10 mX10_flipped [.ref x0, .int x3, .int x1] h18 (fun y23 h20 C21 S22 => wq_gR h20 a14 [(8, 1), (9, 1)] (fun a26 => wq_ai G h20 a26 x3 (fun y27 => wq_si G h20 a19 y23 y27 (fun h28 => wq_T G l d mX9_flips (wq_qv K) 8 [some (.ref x0), some (.int x1), some (va_rf (some a14)), some (.int (x3 + (1 : Int32)))] [] h28 C21 S22))))) ∨ (∃ fs24 : List Value, h18 x0 = some (.inr (9, fs24)) ∧ wq_ci G l d C9 S10 mX11_flipped [.ref x0, .int x3, .int x1] h18 (fun y23 h20 C21 S22 => wq_gR h20 a14 [(8, 1), (9, 1)] (fun a26 => wq_ai G h20 a26 x3 (fun y27 => wq_si G h20 a19 y23 y27 (fun h28 => wq_T G l d mX9_flips (wq_qv K) 8 [some (.ref x0), some (.int x1), some (va_rf (some a14)), some (.int (x3 + (1 : Int32)))] [] h28 C21 S22))))))))))))))))) : wq_T G l d mX9_flips (wq_qv K) 8 [some (.ref x0), some (.int x1), some (va_rf x2), some (.int x3)] [] h C S := by
  refine wq_iload_n (pc := 8) dX9_flips_8 rfl rfl ?_
  refine wq_aload_n (pc := 9) dX9_flips_9 rfl rfl ?_
  have T : ∀ C2 S3 y4 h1, ((y4 ≤ x3 → K h1) ∧ (¬ y4 ≤ x3 → wq_gR h1 x0 [(8, 0), (9, 0)] (fun a7 => (∃ fs12 : List Value, h1 x0 = some (.inr (8, fs12)) ∧ wq_ci G l d C2 S3 mX10_flipped [.ref x0, .int x3, .int x1] h1 (fun y11 h8 C9 S10 => ∃ a14, x2 = some a14 ∧ (wq_gR h8 a14 [(8, 0), (9, 0)] (fun a16 => wq_ai G h8 a16 x3 (fun y17 => wq_si G h8 a7 y11 y17 (fun h18 => wq_gR h18 x0 [(8, 1), (9, 1)] (fun a19 => (∃ fs24 : List Value, h18 x0 = some (.inr (8, fs24)) ∧ wq_ci G l d C9 S10 mX10_flipped [.ref x0, .int x3, .int x1] h18 (fun y23 h20 C21 S22 => wq_gR h20 a14 [(8, 1), (9, 1)] (fun a26 => wq_ai G h20 a26 x3 (fun y27 => wq_si G h20 a19 y23 y27 (fun h28 => wq_T G l d mX9_flips (wq_qv K) 8 [some (.ref x0), some (.int x1), some (va_rf (some a14)), some (.int (x3 + (1 : Int32)))] [] h28 C21 S22))))) ∨ (∃ fs24 : List Value, h18 x0 = some (.inr (9, fs24)) ∧ wq_ci G l d C9 S10 mX11_flipped [.ref x0, .int x3, .int x1] h18 (fun y23 h20 C21 S22 => wq_gR h20 a14 [(8, 1), (9, 1)] (fun a26 => wq_ai G h20 a26 x3 (fun y27 => wq_si G h20 a19 y23 y27 (fun h28 => wq_T G l d mX9_flips (wq_qv K) 8 [some (.ref x0), some (.int x1), some (va_rf (some a14)), some (.int (x3 + (1 : Int32)))] [] h28 C21 S22)))))))))))) ∨ (∃ fs12 : List Value, h1 x0 = some (.inr (9, fs12)) ∧ wq_ci G l d C2 S3 mX11_flipped [.ref x0, .int x3, .int x1] h1 (fun y11 h8 C9 S10 => ∃ a14, x2 = some a14 ∧ (wq_gR h8 a14 [(8, 0), (9, 0)] (fun a16 => wq_ai G h8 a16 x3 (fun y17 => wq_si G h8 a7 y11 y17 (fun h18 => wq_gR h18 x0 [(8, 1), (9, 1)] (fun a19 => (∃ fs24 : List Value, h18 x0 = some (.inr (8, fs24)) ∧ wq_ci G l d C9 S10 mX10_flipped [.ref x0, .int x3, .int x1] h18 (fun y23 h20 C21 S22 => wq_gR h20 a14 [(8, 1), (9, 1)] (fun a26 => wq_ai G h20 a26 x3 (fun y27 => wq_si G h20 a19 y23 y27 (fun h28 => wq_T G l d mX9_flips (wq_qv K) 8 [some (.ref x0), some (.int x1), some (va_rf (some a14)), some (.int (x3 + (1 : Int32)))] [] h28 C21 S22))))) ∨ (∃ fs24 : List Value, h18 x0 = some (.inr (9, fs24)) ∧ wq_ci G l d C9 S10 mX11_flipped [.ref x0, .int x3, .int x1] h18 (fun y23 h20 C21 S22 => wq_gR h20 a14 [(8, 1), (9, 1)] (fun a26 => wq_ai G h20 a26 x3 (fun y27 => wq_si G h20 a19 y23 y27 (fun h28 => wq_T G l d mX9_flips (wq_qv K) 8 [some (.ref x0), some (.int x1), some (va_rf (some a14)), some (.int (x3 + (1 : Int32)))] [] h28 C21 S22))))))))))))))) → wq_T G l d mX9_flips (wq_qv K) 13 [some (.ref x0), some (.int x1), some (va_rf x2), some (.int x3)] [.int y4, .int x3] h1 C2 S3 := by
    intro C2 S3 y4 h1 V
    refine wq_icmp_ge (pc := 13) (tgt := 56) dX9_flips_13 rfl (fun c => ?_) (fun c => ?_)
    · have V := V.1 c
      refine wq_vret (pc := 56) dX9_flips_56 rfl ⟨rfl, V⟩
    · have V := V.2 c
      refine wq_aload_n (pc := 16) dX9_flips_16 rfl rfl ?_
      refine gfq831 (pc := 17) rfl dX9_flips_17 V (fun a7 V => ?_)
      refine wq_aload_n (pc := 20) dX9_flips_20 rfl rfl ?_
      refine wq_iload_n (pc := 21) dX9_flips_21 rfl rfl ?_
      refine wq_iload_n (pc := 22) dX9_flips_22 rfl rfl ?_
      have T : ∀ C9 S10 y11 h8, (∃ a14, x2 = some a14 ∧ (wq_gR h8 a14 [(8, 0), (9, 0)] (fun a16 => wq_ai G h8 a16 x3 (fun y17 => wq_si G h8 a7 y11 y17 (fun h18 => wq_gR h18 x0 [(8, 1), (9, 1)] (fun a19 => (∃ fs24 : List Value, h18 x0 = some (.inr (8, fs24)) ∧ wq_ci G l d C9 S10 mX10_flipped [.ref x0, .int x3, .int x1] h18 (fun y23 h20 C21 S22 => wq_gR h20 a14 [(8, 1), (9, 1)] (fun a26 => wq_ai G h20 a26 x3 (fun y27 => wq_si G h20 a19 y23 y27 (fun h28 => wq_T G l d mX9_flips (wq_qv K) 8 [some (.ref x0), some (.int x1), some (va_rf (some a14)), some (.int (x3 + (1 : Int32)))] [] h28 C21 S22))))) ∨ (∃ fs24 : List Value, h18 x0 = some (.inr (9, fs24)) ∧ wq_ci G l d C9 S10 mX11_flipped [.ref x0, .int x3, .int x1] h18 (fun y23 h20 C21 S22 => wq_gR h20 a14 [(8, 1), (9, 1)] (fun a26 => wq_ai G h20 a26 x3 (fun y27 => wq_si G h20 a19 y23 y27 (fun h28 => wq_T G l d mX9_flips (wq_qv K) 8 [some (.ref x0), some (.int x1), some (va_rf (some a14)), some (.int (x3 + (1 : Int32)))] [] h28 C21 S22))))))))))) → wq_T G l d mX9_flips (wq_qv K) 26 [some (.ref x0), some (.int x1), some (va_rf x2), some (.int x3)] [.int y11, .ref a7] h8 C9 S10 := by
        intro C9 S10 y11 h8 V
        refine wq_aload_nQ (pc := 26) dX9_flips_26 rfl rfl ?_
        obtain ⟨a14, w15, V⟩ := V
        rw [w15]
        refine gfq831 (pc := 27) rfl dX9_flips_27 V (fun a16 V => ?_)
        refine wq_iload_n (pc := 30) dX9_flips_30 rfl rfl ?_
        refine wx_ai (pc := 31) dX9_flips_31 V (fun y17 V => ?_)
        refine wx_si (pc := 32) dX9_flips_32 V (fun h18 V => ?_)
        refine wq_aload_n (pc := 33) dX9_flips_33 rfl rfl ?_
        refine gfq841 (pc := 34) rfl dX9_flips_34 V (fun a19 V => ?_)
        refine wq_aload_n (pc := 37) dX9_flips_37 rfl rfl ?_
        refine wq_iload_n (pc := 38) dX9_flips_38 rfl rfl ?_
        refine wq_iload_n (pc := 39) dX9_flips_39 rfl rfl ?_
        have T : ∀ C21 S22 y23 h20, (wq_gR h20 a14 [(8, 1), (9, 1)] (fun a26 => wq_ai G h20 a26 x3 (fun y27 => wq_si G h20 a19 y23 y27 (fun h28 => wq_T G l d mX9_flips (wq_qv K) 8 [some (.ref x0), some (.int x1), some (va_rf (some a14)), some (.int (x3 + (1 : Int32)))] [] h28 C21 S22)))) → wq_T G l d mX9_flips (wq_qv K) 43 [some (.ref x0), some (.int x1), some (.ref a14), some (.int x3)] [.int y23, .ref a19] h20 C21 S22 := by
          intro C21 S22 y23 h20 V
          refine wq_aload_n (pc := 43) dX9_flips_43 rfl rfl ?_
          refine gfq841 (pc := 44) rfl dX9_flips_44 V (fun a26 V => ?_)
          refine wq_iload_n (pc := 47) dX9_flips_47 rfl rfl ?_
          refine wx_ai (pc := 48) dX9_flips_48 V (fun y27 V => ?_)
          refine wx_si (pc := 49) dX9_flips_49 V (fun h28 V => ?_)
          refine wq_iinc (L' := [some (.ref x0), some (.int x1), some (.ref a14), some (.int (x3 + (1 : Int32)))]) (pc := 50) dX9_flips_50 rfl (by rw [gsti1]) (Nat.le_of_ble_eq_true rfl) rfl ?_
          refine wq_goto (pc := 53) (tgt := 8) dX9_flips_53 rfl ?_
          exact wq_T.less V ⟨rfl, ⟨rfl, ⟨rfl, ⟨rfl, trivial⟩⟩⟩⟩
        rcases V with ⟨fs24, w25, V⟩ | ⟨fs24, w25, V⟩
        · exact clq1531_8 (pc := 40) (As := [.int x3, .int x1]) (st := [.ref a19]) rfl dX9_flips_40 rfl (Nat.le_of_ble_eq_true rfl) w25 V (fun C21 S22 => wx_ki (fun y23 h20 V => T C21 S22 y23 h20 V))
        · exact clq1531_9 (pc := 40) (As := [.int x3, .int x1]) (st := [.ref a19]) rfl dX9_flips_40 rfl (Nat.le_of_ble_eq_true rfl) w25 V (fun C21 S22 => wx_ki (fun y23 h20 V => T C21 S22 y23 h20 V))
      rcases V with ⟨fs12, w13, V⟩ | ⟨fs12, w13, V⟩
      · exact clq1531_8 (pc := 23) (As := [.int x3, .int x1]) (st := [.ref a7]) rfl dX9_flips_23 rfl (Nat.le_of_ble_eq_true rfl) w13 V (fun C9 S10 => wx_ki (fun y11 h8 V => T C9 S10 y11 h8 V))
      · exact clq1531_9 (pc := 23) (As := [.int x3, .int x1]) (st := [.ref a7]) rfl dX9_flips_23 rfl (Nat.le_of_ble_eq_true rfl) w13 V (fun C9 S10 => wx_ki (fun y11 h8 V => T C9 S10 y11 h8 V))
  rcases V with ⟨fs5, w6, V⟩ | ⟨fs5, w6, V⟩
  · exact clq1530_8 (pc := 10) (As := []) (st := [.int x3]) rfl dX9_flips_10 rfl (Nat.le_of_ble_eq_true rfl) w6 V (fun C2 S3 => wx_ki (fun y4 h1 V => T C2 S3 y4 h1 V))
  · exact clq1530_9 (pc := 10) (As := []) (st := [.int x3]) rfl dX9_flips_10 rfl (Nat.le_of_ble_eq_true rfl) w6 V (fun C2 S3 => wx_ki (fun y4 h1 V => T C2 S3 y4 h1 V))
