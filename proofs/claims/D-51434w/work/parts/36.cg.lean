/-! the component, walked: printed by wip gen/comp.py -/
set_option maxRecDepth 100000
noncomputable def L_law_j2202 (G : jG) (n : Nat) (a0 : Option Nat) (rec23 : Int32 × jH → Option (Int32 × jH)) (x1_23 : Option Nat) (x2_23 : Option Nat) (x3_23 : Option Nat) (x4_2202 : Int32) (B2202 : jH) : Option (Int32 × jH) :=
  rec23 ((x4_2202 + 6), B2202)
noncomputable def L_law_j1946 (G : jG) (n : Nat) (a0 : Option Nat) (rec23 : Int32 × jH → Option (Int32 × jH)) (x1_23 : Option Nat) (x2_23 : Option Nat) (x3_23 : Option Nat) (x4_1946 : Int32) (x5_1946 : Int32) (s0_1946 : Option Nat) (s1_1946 : Int32) (s2_1946 : Int32) (B1946 : jH) : Option (Int32 × jH) :=
  (rc B1946 s0_1946 5).bind fun o1946 => bd (mcall G B1946 o1946 (fun M => X6_shut n M s1_1946 s2_1946)) fun v1946 S1946 => (rc S1946 x2_23 5).bind fun o1952 => (mcr G S1946 o1952 (fun M => X6_thrown n M)).bind fun v1952 => if v1952 = x5_1946 then (if x5_1946 = 0 then ((aJ S1946 x3_23 0).bind fun v1969 => if (lg_cmp v1969 v1946.toInt64) = 0 then (L_law_j2202 G n a0 rec23 x1_23 x2_23 x3_23 x4_1946 S1946) else (some (0, S1946))) else (L_law_j2202 G n a0 rec23 x1_23 x2_23 x3_23 x4_1946 S1946)) else (some (0, S1946))
noncomputable def L_law_j1919 (G : jG) (n : Nat) (a0 : Option Nat) (rec23 : Int32 × jH → Option (Int32 × jH)) (x1_23 : Option Nat) (x2_23 : Option Nat) (x3_23 : Option Nat) (x4_1919 : Int32) (s0_1919 : Option Nat) (s1_1919 : Int32) (s2_1919 : Int32) (B1919 : jH) : Option (Int32 × jH) :=
  bd (X0_shut G n B1919 s0_1919 s1_1919 s2_1919 x3_23) fun v1920 S1920 => (aI S1920 a0 0 (x4_1919 + 1)).bind fun v1931 => (aI S1920 a0 0 (x4_1919 + 2)).bind fun v1937 => if v1937 = 0 then (L_law_j1946 G n a0 rec23 x1_23 x2_23 x3_23 x4_1919 v1920 x2_23 v1931 0 S1920) else (L_law_j1946 G n a0 rec23 x1_23 x2_23 x3_23 x4_1919 v1920 x2_23 v1931 1 S1920)
noncomputable def L_law_h23 (G : jG) (n : Nat) (a0 : Option Nat) (x1_23 : Option Nat) (x2_23 : Option Nat) (x3_23 : Option Nat) (rec23 : Int32 × jH → Option (Int32 × jH)) (q23 : Int32 × jH) : Option (Int32 × jH) :=
  let x4_23 := q23.1; let B23 := q23.2; (aLen' B23 a0).bind fun v26 => if (v26 - 6) < x4_23 then (some (1, B23)) else ((aI B23 a0 0 x4_23).bind fun v36 => if (v36 &&& 63) = 0 then ((aI B23 a0 0 (x4_23 + 1)).bind fun v230 => (aI B23 a0 0 (x4_23 + 2)).bind fun v236 => (aI B23 a0 0 (x4_23 + 3)).bind fun v242 => (aI B23 a0 0 (x4_23 + 4)).bind fun v248 => (aI B23 a0 0 (x4_23 + 5)).bind fun v254 => (rc B23 x1_23 0).bind fun o255 => bd (X1_appendInput G n B23 o255 v230 v236 v242 v248 v254) fun v255 S255 => (aI S255 a0 0 (x4_23 + 1)).bind fun v264 => (aI S255 a0 0 (x4_23 + 2)).bind fun v270 => (aI S255 a0 0 (x4_23 + 3)).bind fun v276 => (aI S255 a0 0 (x4_23 + 4)).bind fun v282 => (aI S255 a0 0 (x4_23 + 5)).bind fun v288 => (rc S255 x2_23 5).bind fun o289 => bd (mcall G S255 o289 (fun M => X6_appendInput n M v264 v270 v276 v282 v288)) fun v289 S289 => if v255 = v289 then (L_law_j2202 G n a0 rec23 x1_23 x2_23 x3_23 x4_23 S289) else (some (0, S289))) else if (v36 &&& 63) = 1 then ((aI B23 a0 0 (x4_23 + 1)).bind fun v303 => (rc B23 x1_23 0).bind fun o304 => bd (X1_truncateInput G n B23 o304 v303) fun v304 S304 => (aI S304 a0 0 (x4_23 + 1)).bind fun v313 => (rc S304 x2_23 5).bind fun o314 => bd (mcall G S304 o314 (fun M => X6_truncateInput n M v313)) fun v314 S314 => if v304 = v314 then (L_law_j2202 G n a0 rec23 x1_23 x2_23 x3_23 x4_23 S314) else (some (0, S314))) else if (v36 &&& 63) = 2 then ((rc B23 x1_23 0).bind fun o323 => bd (X1_loadLoop G n B23 o323) fun v323 S323 => (rc S323 x2_23 5).bind fun o327 => bd (mcall G S323 o327 (fun M => X6_loadLoop n M)) fun v327 S327 => if v323 = v327 then (L_law_j2202 G n a0 rec23 x1_23 x2_23 x3_23 x4_23 S327) else (some (0, S327))) else if (v36 &&& 63) = 3 then ((rc B23 x1_23 0).bind fun o336 => bd (X1_playScript G n B23 o336) fun v336 S336 => (rc S336 x2_23 5).bind fun o340 => bd (mcall G S336 o340 (fun M => X6_playScript n M)) fun v340 S340 => if v336 = v340 then (L_law_j2202 G n a0 rec23 x1_23 x2_23 x3_23 x4_23 S340) else (some (0, S340))) else if (v36 &&& 63) = 4 then ((rc B23 x1_23 0).bind fun o349 => (X1_errorCode G n B23 o349).bind fun v349 => (rc B23 x2_23 5).bind fun o353 => bd (mcall G B23 o353 (fun M => X6_errorCode n M)) fun v353 S353 => if v349 = v353 then (L_law_j2202 G n a0 rec23 x1_23 x2_23 x3_23 x4_23 S353) else (some (0, S353))) else if (v36 &&& 63) = 5 then ((rc B23 x1_23 0).bind fun o362 => (X1_errorOffset G n B23 o362).bind fun v362 => (rc B23 x2_23 5).bind fun o366 => bd (mcall G B23 o366 (fun M => X6_errorOffset n M)) fun v366 S366 => if v362 = v366 then (L_law_j2202 G n a0 rec23 x1_23 x2_23 x3_23 x4_23 S366) else (some (0, S366))) else if (v36 &&& 63) = 6 then ((aI B23 a0 0 (x4_23 + 1)).bind fun v380 => bd (X0_count G n B23 x1_23 v380 x3_23) fun v382 S382 => (aI S382 a0 0 (x4_23 + 1)).bind fun v393 => (rc S382 x2_23 5).bind fun o394 => bd (mcall G S382 o394 (fun M => X6_count n M v393)) fun v394 S394 => (rc S394 x2_23 5).bind fun o400 => (mcr G S394 o400 (fun M => X6_thrown n M)).bind fun v400 => if v400 = v382 then (if v382 = 0 then ((aJ S394 x3_23 0).bind fun v417 => if (lg_cmp v417 v394.toInt64) = 0 then (L_law_j2202 G n a0 rec23 x1_23 x2_23 x3_23 x4_23 S394) else (some (0, S394))) else (L_law_j2202 G n a0 rec23 x1_23 x2_23 x3_23 x4_23 S394)) else (some (0, S394))) else if (v36 &&& 63) = 7 then ((aI B23 a0 0 (x4_23 + 1)).bind fun v436 => bd (X0_account G n B23 x1_23 v436 x3_23) fun v438 S438 => (aI S438 a0 0 (x4_23 + 1)).bind fun v449 => (rc S438 x2_23 5).bind fun o450 => bd (mcall G S438 o450 (fun M => X6_account n M v449)) fun v450 S450 => (rc S450 x2_23 5).bind fun o456 => (mcr G S450 o456 (fun M => X6_thrown n M)).bind fun v456 => if v456 = v438 then (if v438 = 0 then ((aJ S450 x3_23 0).bind fun v473 => if (lg_cmp v473 v450.toInt64) = 0 then (L_law_j2202 G n a0 rec23 x1_23 x2_23 x3_23 x4_23 S450) else (some (0, S450))) else (L_law_j2202 G n a0 rec23 x1_23 x2_23 x3_23 x4_23 S450)) else (some (0, S450))) else if (v36 &&& 63) = 8 then ((aI B23 a0 0 (x4_23 + 1)).bind fun v492 => (aI B23 a0 0 (x4_23 + 2)).bind fun v498 => bd (X0_cell G n B23 x1_23 v492 v498 x3_23) fun v500 S500 => (aI S500 a0 0 (x4_23 + 1)).bind fun v511 => (aI S500 a0 0 (x4_23 + 2)).bind fun v517 => (rc S500 x2_23 5).bind fun o518 => bd (mcall G S500 o518 (fun M => X6_cell n M v511 v517)) fun v518 S518 => (rc S518 x2_23 5).bind fun o524 => (mcr G S518 o524 (fun M => X6_thrown n M)).bind fun v524 => if v524 = v500 then (if v500 = 0 then ((aJ S518 x3_23 0).bind fun v541 => if (lg_cmp v541 v518.toInt64) = 0 then (L_law_j2202 G n a0 rec23 x1_23 x2_23 x3_23 x4_23 S518) else (some (0, S518))) else (L_law_j2202 G n a0 rec23 x1_23 x2_23 x3_23 x4_23 S518)) else (some (0, S518))) else if (v36 &&& 63) = 9 then ((aI B23 a0 0 (x4_23 + 1)).bind fun v560 => (aI B23 a0 0 (x4_23 + 2)).bind fun v566 => bd (X0_parcel G n B23 x1_23 v560 v566 x3_23) fun v568 S568 => (aI S568 a0 0 (x4_23 + 1)).bind fun v579 => (aI S568 a0 0 (x4_23 + 2)).bind fun v585 => (rc S568 x2_23 5).bind fun o586 => bd (mcall G S568 o586 (fun M => X6_parcel n M v579 v585)) fun v586 S586 => (rc S586 x2_23 5).bind fun o592 => (mcr G S586 o592 (fun M => X6_thrown n M)).bind fun v592 => if v592 = v568 then (if v568 = 0 then ((aJ S586 x3_23 0).bind fun v609 => if (lg_cmp v609 v586.toInt64) = 0 then (L_law_j2202 G n a0 rec23 x1_23 x2_23 x3_23 x4_23 S586) else (some (0, S586))) else (L_law_j2202 G n a0 rec23 x1_23 x2_23 x3_23 x4_23 S586)) else (some (0, S586))) else if (v36 &&& 63) = 10 then ((aI B23 a0 0 (x4_23 + 1)).bind fun v628 => (aI B23 a0 0 (x4_23 + 2)).bind fun v634 => bd (X0_chute G n B23 x1_23 v628 v634 x3_23) fun v636 S636 => (aI S636 a0 0 (x4_23 + 1)).bind fun v647 => (aI S636 a0 0 (x4_23 + 2)).bind fun v653 => (rc S636 x2_23 5).bind fun o654 => bd (mcall G S636 o654 (fun M => X6_chute n M v647 v653)) fun v654 S654 => (rc S654 x2_23 5).bind fun o660 => (mcr G S654 o660 (fun M => X6_thrown n M)).bind fun v660 => if v660 = v636 then (if v636 = 0 then ((aJ S654 x3_23 0).bind fun v677 => if (lg_cmp v677 v654.toInt64) = 0 then (L_law_j2202 G n a0 rec23 x1_23 x2_23 x3_23 x4_23 S654) else (some (0, S654))) else (L_law_j2202 G n a0 rec23 x1_23 x2_23 x3_23 x4_23 S654)) else (some (0, S654))) else if (v36 &&& 63) = 11 then ((aI B23 a0 0 (x4_23 + 1)).bind fun v696 => (aI B23 a0 0 (x4_23 + 2)).bind fun v702 => bd (X0_held G n B23 x1_23 v696 v702 x3_23) fun v704 S704 => (aI S704 a0 0 (x4_23 + 1)).bind fun v715 => (aI S704 a0 0 (x4_23 + 2)).bind fun v721 => (rc S704 x2_23 5).bind fun o722 => bd (mcall G S704 o722 (fun M => X6_held n M v715 v721)) fun v722 S722 => (rc S722 x2_23 5).bind fun o728 => (mcr G S722 o728 (fun M => X6_thrown n M)).bind fun v728 => if v728 = v704 then (if v704 = 0 then ((aJ S722 x3_23 0).bind fun v745 => if (lg_cmp v745 v722.toInt64) = 0 then (L_law_j2202 G n a0 rec23 x1_23 x2_23 x3_23 x4_23 S722) else (some (0, S722))) else (L_law_j2202 G n a0 rec23 x1_23 x2_23 x3_23 x4_23 S722)) else (some (0, S722))) else if (v36 &&& 63) = 12 then ((aI B23 a0 0 (x4_23 + 1)).bind fun v764 => (aI B23 a0 0 (x4_23 + 2)).bind fun v770 => bd (X0_steps G n B23 x1_23 v764 v770 x3_23) fun v772 S772 => (aI S772 a0 0 (x4_23 + 1)).bind fun v783 => (aI S772 a0 0 (x4_23 + 2)).bind fun v789 => (rc S772 x2_23 5).bind fun o790 => bd (mcall G S772 o790 (fun M => X6_steps n M v783 v789)) fun v790 S790 => (rc S790 x2_23 5).bind fun o796 => (mcr G S790 o796 (fun M => X6_thrown n M)).bind fun v796 => if v796 = v772 then (if v772 = 0 then ((aJ S790 x3_23 0).bind fun v813 => if (lg_cmp v813 v790.toInt64) = 0 then (L_law_j2202 G n a0 rec23 x1_23 x2_23 x3_23 x4_23 S790) else (some (0, S790))) else (L_law_j2202 G n a0 rec23 x1_23 x2_23 x3_23 x4_23 S790)) else (some (0, S790))) else if (v36 &&& 63) = 13 then ((aI B23 a0 0 (x4_23 + 1)).bind fun v832 => bd (X0_toScanner G n B23 x1_23 v832 x3_23) fun v834 S834 => (aI S834 a0 0 (x4_23 + 1)).bind fun v845 => (rc S834 x2_23 5).bind fun o846 => bd (mcall G S834 o846 (fun M => X6_toScanner n M v845)) fun v846 S846 => (rc S846 x2_23 5).bind fun o852 => (mcr G S846 o852 (fun M => X6_thrown n M)).bind fun v852 => if v852 = v834 then (if v834 = 0 then ((aJ S846 x3_23 0).bind fun v869 => if (lg_cmp v869 v846.toInt64) = 0 then (L_law_j2202 G n a0 rec23 x1_23 x2_23 x3_23 x4_23 S846) else (some (0, S846))) else (L_law_j2202 G n a0 rec23 x1_23 x2_23 x3_23 x4_23 S846)) else (some (0, S846))) else if (v36 &&& 63) = 14 then ((aI B23 a0 0 (x4_23 + 1)).bind fun v888 => bd (X0_toChute G n B23 x1_23 v888 x3_23) fun v890 S890 => (aI S890 a0 0 (x4_23 + 1)).bind fun v901 => (rc S890 x2_23 5).bind fun o902 => bd (mcall G S890 o902 (fun M => X6_toChute n M v901)) fun v902 S902 => (rc S902 x2_23 5).bind fun o908 => (mcr G S902 o908 (fun M => X6_thrown n M)).bind fun v908 => if v908 = v890 then (if v890 = 0 then ((aJ S902 x3_23 0).bind fun v925 => if (lg_cmp v925 v902.toInt64) = 0 then (L_law_j2202 G n a0 rec23 x1_23 x2_23 x3_23 x4_23 S902) else (some (0, S902))) else (L_law_j2202 G n a0 rec23 x1_23 x2_23 x3_23 x4_23 S902)) else (some (0, S902))) else if (v36 &&& 63) = 15 then ((aI B23 a0 0 (x4_23 + 1)).bind fun v944 => (aI B23 a0 0 (x4_23 + 2)).bind fun v950 => bd (X0_why G n B23 x1_23 v944 v950 x3_23) fun v952 S952 => (aI S952 a0 0 (x4_23 + 1)).bind fun v963 => (aI S952 a0 0 (x4_23 + 2)).bind fun v969 => (rc S952 x2_23 5).bind fun o970 => bd (mcall G S952 o970 (fun M => X6_why n M v963 v969)) fun v970 S970 => (rc S970 x2_23 5).bind fun o976 => (mcr G S970 o976 (fun M => X6_thrown n M)).bind fun v976 => if v976 = v952 then (if v952 = 0 then ((aJ S970 x3_23 0).bind fun v993 => if (lg_cmp v993 v970.toInt64) = 0 then (L_law_j2202 G n a0 rec23 x1_23 x2_23 x3_23 x4_23 S970) else (some (0, S970))) else (L_law_j2202 G n a0 rec23 x1_23 x2_23 x3_23 x4_23 S970)) else (some (0, S970))) else if (v36 &&& 63) = 16 then ((rc B23 x1_23 0).bind fun o1007 => (X1_whyNoPut G n B23 o1007).bind fun v1007 => (rc B23 x2_23 5).bind fun o1011 => bd (mcall G B23 o1011 (fun M => X6_whyNoPut n M)) fun v1011 S1011 => if v1007 = v1011 then (L_law_j2202 G n a0 rec23 x1_23 x2_23 x3_23 x4_23 S1011) else (some (0, S1011))) else if (v36 &&& 63) = 17 then ((aI B23 a0 0 (x4_23 + 1)).bind fun v1025 => bd (X0_whyNoSlip G n B23 x1_23 v1025 x3_23) fun v1027 S1027 => (aI S1027 a0 0 (x4_23 + 1)).bind fun v1038 => (rc S1027 x2_23 5).bind fun o1039 => bd (mcall G S1027 o1039 (fun M => X6_whyNoSlip n M v1038)) fun v1039 S1039 => (rc S1039 x2_23 5).bind fun o1045 => (mcr G S1039 o1045 (fun M => X6_thrown n M)).bind fun v1045 => if v1045 = v1027 then (if v1027 = 0 then ((aJ S1039 x3_23 0).bind fun v1062 => if (lg_cmp v1062 v1039.toInt64) = 0 then (L_law_j2202 G n a0 rec23 x1_23 x2_23 x3_23 x4_23 S1039) else (some (0, S1039))) else (L_law_j2202 G n a0 rec23 x1_23 x2_23 x3_23 x4_23 S1039)) else (some (0, S1039))) else if (v36 &&& 63) = 18 then ((aI B23 a0 0 (x4_23 + 1)).bind fun v1081 => bd (X0_leavesIn G n B23 x1_23 v1081 x3_23) fun v1083 S1083 => (aI S1083 a0 0 (x4_23 + 1)).bind fun v1094 => (rc S1083 x2_23 5).bind fun o1095 => bd (mcall G S1083 o1095 (fun M => X6_leavesIn n M v1094)) fun v1095 S1095 => (rc S1095 x2_23 5).bind fun o1101 => (mcr G S1095 o1101 (fun M => X6_thrown n M)).bind fun v1101 => if v1101 = v1083 then (if v1083 = 0 then ((aJ S1095 x3_23 0).bind fun v1118 => if (lg_cmp v1118 v1095.toInt64) = 0 then (L_law_j2202 G n a0 rec23 x1_23 x2_23 x3_23 x4_23 S1095) else (some (0, S1095))) else (L_law_j2202 G n a0 rec23 x1_23 x2_23 x3_23 x4_23 S1095)) else (some (0, S1095))) else if (v36 &&& 63) = 19 then ((aI B23 a0 0 (x4_23 + 1)).bind fun v1137 => (aI B23 a0 0 (x4_23 + 2)).bind fun v1143 => bd (X0_endsAs G n B23 x1_23 v1137 v1143 x3_23) fun v1145 S1145 => (aI S1145 a0 0 (x4_23 + 1)).bind fun v1156 => (aI S1145 a0 0 (x4_23 + 2)).bind fun v1162 => (rc S1145 x2_23 5).bind fun o1163 => bd (mcall G S1145 o1163 (fun M => X6_endsAs n M v1156 v1162)) fun v1163 S1163 => (rc S1163 x2_23 5).bind fun o1169 => (mcr G S1163 o1169 (fun M => X6_thrown n M)).bind fun v1169 => if v1169 = v1145 then (if v1145 = 0 then ((aJ S1163 x3_23 0).bind fun v1186 => if (lg_cmp v1186 v1163.toInt64) = 0 then (L_law_j2202 G n a0 rec23 x1_23 x2_23 x3_23 x4_23 S1163) else (some (0, S1163))) else (L_law_j2202 G n a0 rec23 x1_23 x2_23 x3_23 x4_23 S1163)) else (some (0, S1163))) else if (v36 &&& 63) = 20 then ((aI B23 a0 0 (x4_23 + 1)).bind fun v1205 => (aI B23 a0 0 (x4_23 + 2)).bind fun v1211 => bd (X0_heldIn G n B23 x1_23 v1205 v1211 x3_23) fun v1213 S1213 => (aI S1213 a0 0 (x4_23 + 1)).bind fun v1224 => (aI S1213 a0 0 (x4_23 + 2)).bind fun v1230 => (rc S1213 x2_23 5).bind fun o1231 => bd (mcall G S1213 o1231 (fun M => X6_heldIn n M v1224 v1230)) fun v1231 S1231 => (rc S1231 x2_23 5).bind fun o1237 => (mcr G S1231 o1237 (fun M => X6_thrown n M)).bind fun v1237 => if v1237 = v1213 then (if v1213 = 0 then ((aJ S1231 x3_23 0).bind fun v1254 => if (lg_cmp v1254 v1231.toInt64) = 0 then (L_law_j2202 G n a0 rec23 x1_23 x2_23 x3_23 x4_23 S1231) else (some (0, S1231))) else (L_law_j2202 G n a0 rec23 x1_23 x2_23 x3_23 x4_23 S1231)) else (some (0, S1231))) else if (v36 &&& 63) = 21 then ((aI B23 a0 0 (x4_23 + 1)).bind fun v1273 => (aI B23 a0 0 (x4_23 + 2)).bind fun v1279 => bd (X0_growsIn G n B23 x1_23 v1273 v1279 x3_23) fun v1281 S1281 => (aI S1281 a0 0 (x4_23 + 1)).bind fun v1292 => (aI S1281 a0 0 (x4_23 + 2)).bind fun v1298 => (rc S1281 x2_23 5).bind fun o1299 => bd (mcall G S1281 o1299 (fun M => X6_growsIn n M v1292 v1298)) fun v1299 S1299 => (rc S1299 x2_23 5).bind fun o1305 => (mcr G S1299 o1305 (fun M => X6_thrown n M)).bind fun v1305 => if v1305 = v1281 then (if v1281 = 0 then ((aJ S1299 x3_23 0).bind fun v1322 => if (lg_cmp v1322 v1299.toInt64) = 0 then (L_law_j2202 G n a0 rec23 x1_23 x2_23 x3_23 x4_23 S1299) else (some (0, S1299))) else (L_law_j2202 G n a0 rec23 x1_23 x2_23 x3_23 x4_23 S1299)) else (some (0, S1299))) else if (v36 &&& 63) = 22 then ((aI B23 a0 0 (x4_23 + 1)).bind fun v1341 => (aI B23 a0 0 (x4_23 + 2)).bind fun v1347 => bd (X0_gainOf G n B23 x1_23 v1341 v1347 x3_23) fun v1349 S1349 => (aI S1349 a0 0 (x4_23 + 1)).bind fun v1360 => (aI S1349 a0 0 (x4_23 + 2)).bind fun v1366 => (rc S1349 x2_23 5).bind fun o1367 => bd (mcall G S1349 o1367 (fun M => X6_gainOf n M v1360 v1366)) fun v1367 S1367 => (rc S1367 x2_23 5).bind fun o1373 => (mcr G S1367 o1373 (fun M => X6_thrown n M)).bind fun v1373 => if v1373 = v1349 then (if v1349 = 0 then ((aJ S1367 x3_23 0).bind fun v1390 => if (lg_cmp v1390 v1367.toInt64) = 0 then (L_law_j2202 G n a0 rec23 x1_23 x2_23 x3_23 x4_23 S1367) else (some (0, S1367))) else (L_law_j2202 G n a0 rec23 x1_23 x2_23 x3_23 x4_23 S1367)) else (some (0, S1367))) else if (v36 &&& 63) = 23 then ((aI B23 a0 0 (x4_23 + 1)).bind fun v1409 => bd (X0_bestEmpty G n B23 x1_23 v1409 x3_23) fun v1411 S1411 => (aI S1411 a0 0 (x4_23 + 1)).bind fun v1422 => (rc S1411 x2_23 5).bind fun o1423 => bd (mcall G S1411 o1423 (fun M => X6_bestEmpty n M v1422)) fun v1423 S1423 => (rc S1423 x2_23 5).bind fun o1429 => (mcr G S1423 o1429 (fun M => X6_thrown n M)).bind fun v1429 => if v1429 = v1411 then (if v1411 = 0 then ((aJ S1423 x3_23 0).bind fun v1446 => if (lg_cmp v1446 v1423.toInt64) = 0 then (L_law_j2202 G n a0 rec23 x1_23 x2_23 x3_23 x4_23 S1423) else (some (0, S1423))) else (L_law_j2202 G n a0 rec23 x1_23 x2_23 x3_23 x4_23 S1423)) else (some (0, S1423))) else if (v36 &&& 63) = 24 then ((aI B23 a0 0 (x4_23 + 1)).bind fun v1465 => (aI B23 a0 0 (x4_23 + 2)).bind fun v1471 => (aI B23 a0 0 (x4_23 + 3)).bind fun v1477 => bd (X0_missortsIf G n B23 x1_23 v1465 v1471 v1477 x3_23) fun v1479 S1479 => (aI S1479 a0 0 (x4_23 + 1)).bind fun v1490 => (aI S1479 a0 0 (x4_23 + 2)).bind fun v1496 => (aI S1479 a0 0 (x4_23 + 3)).bind fun v1502 => (rc S1479 x2_23 5).bind fun o1503 => bd (mcall G S1479 o1503 (fun M => X6_missortsIf n M v1490 v1496 v1502)) fun v1503 S1503 => (rc S1503 x2_23 5).bind fun o1509 => (mcr G S1503 o1509 (fun M => X6_thrown n M)).bind fun v1509 => if v1509 = v1479 then (if v1479 = 0 then ((aJ S1503 x3_23 0).bind fun v1526 => if (lg_cmp v1526 v1503.toInt64) = 0 then (L_law_j2202 G n a0 rec23 x1_23 x2_23 x3_23 x4_23 S1503) else (some (0, S1503))) else (L_law_j2202 G n a0 rec23 x1_23 x2_23 x3_23 x4_23 S1503)) else (some (0, S1503))) else if (v36 &&& 63) = 25 then ((rc B23 x1_23 0).bind fun o1540 => bd (X1_clearIn G n B23 o1540) fun v1540 S1540 => (rc S1540 x2_23 5).bind fun o1544 => bd (mcall G S1540 o1544 (fun M => X6_clearIn n M)) fun v1544 S1544 => if v1540 = v1544 then (L_law_j2202 G n a0 rec23 x1_23 x2_23 x3_23 x4_23 S1544) else (some (0, S1544))) else if (v36 &&& 63) = 26 then ((rc B23 x1_23 0).bind fun o1553 => bd (X1_freeIn G n B23 o1553) fun v1553 S1553 => (rc S1553 x2_23 5).bind fun o1557 => bd (mcall G S1553 o1557 (fun M => X6_freeIn n M)) fun v1557 S1557 => if v1553 = v1557 then (L_law_j2202 G n a0 rec23 x1_23 x2_23 x3_23 x4_23 S1557) else (some (0, S1557))) else if (v36 &&& 63) = 27 then ((rc B23 x1_23 0).bind fun o1566 => (X1_agree G n B23 o1566).bind fun v1566 => (rc B23 x2_23 5).bind fun o1570 => bd (mcall G B23 o1570 (fun M => X6_agree n M)) fun v1570 S1570 => if v1566 = v1570 then (L_law_j2202 G n a0 rec23 x1_23 x2_23 x3_23 x4_23 S1570) else (some (0, S1570))) else if (v36 &&& 63) = 28 then ((rc B23 x1_23 0).bind fun o1579 => (X1_sortedPart G n B23 o1579).bind fun v1579 => (rc B23 x2_23 5).bind fun o1585 => bd (mcall G B23 o1585 (fun M => X6_sortedPart n M)) fun v1585 S1585 => if (Op.cmpValue (FP.dcmp v1579 v1585) .l) = 0 then (L_law_j2202 G n a0 rec23 x1_23 x2_23 x3_23 x4_23 S1585) else (if (Op.cmpValue (FP.dcmp v1579 v1579) .l) = 0 then (some (0, S1585)) else (if (Op.cmpValue (FP.dcmp v1585 v1585) .l) = 0 then (some (0, S1585)) else (L_law_j2202 G n a0 rec23 x1_23 x2_23 x3_23 x4_23 S1585)))) else if (v36 &&& 63) = 29 then ((rc B23 x1_23 0).bind fun o1620 => (X1_load G n B23 o1620).bind fun v1620 => jn64 (FP.f2d v1620) fun _ => (rc B23 x2_23 5).bind fun o1627 => bd (mcall G B23 o1627 (fun M => X6_load n M)) fun v1627 S1627 => jn64 (FP.f2d v1627) fun _ => if (Op.cmpValue (FP.dcmp (FP.f2d v1620) (FP.f2d v1627)) .l) = 0 then (L_law_j2202 G n a0 rec23 x1_23 x2_23 x3_23 x4_23 S1627) else (if (Op.cmpValue (FP.dcmp (FP.f2d v1620) (FP.f2d v1620)) .l) = 0 then (some (0, S1627)) else (if (Op.cmpValue (FP.dcmp (FP.f2d v1627) (FP.f2d v1627)) .l) = 0 then (some (0, S1627)) else (L_law_j2202 G n a0 rec23 x1_23 x2_23 x3_23 x4_23 S1627)))) else if (v36 &&& 63) = 30 then ((aI B23 a0 0 (x4_23 + 1)).bind fun v1668 => (aI B23 a0 0 (x4_23 + 2)).bind fun v1674 => bd (X0_put G n B23 x1_23 v1668 v1674 x3_23) fun v1676 S1676 => (aI S1676 a0 0 (x4_23 + 1)).bind fun v1687 => (aI S1676 a0 0 (x4_23 + 2)).bind fun v1693 => (rc S1676 x2_23 5).bind fun o1694 => bd (mcall G S1676 o1694 (fun M => X6_put n M v1687 v1693)) fun v1694 S1694 => (rc S1694 x2_23 5).bind fun o1700 => (mcr G S1694 o1700 (fun M => X6_thrown n M)).bind fun v1700 => if v1700 = v1676 then (if v1676 = 0 then ((aJ S1694 x3_23 0).bind fun v1717 => if (lg_cmp v1717 v1694.toInt64) = 0 then (L_law_j2202 G n a0 rec23 x1_23 x2_23 x3_23 x4_23 S1694) else (some (0, S1694))) else (L_law_j2202 G n a0 rec23 x1_23 x2_23 x3_23 x4_23 S1694)) else (some (0, S1694))) else if (v36 &&& 63) = 31 then ((aI B23 a0 0 (x4_23 + 1)).bind fun v1736 => bd (X0_tick G n B23 x1_23 v1736 x3_23) fun v1738 S1738 => (aI S1738 a0 0 (x4_23 + 1)).bind fun v1749 => (rc S1738 x2_23 5).bind fun o1750 => bd (mcall G S1738 o1750 (fun M => X6_tick n M v1749)) fun v1750 S1750 => (rc S1750 x2_23 5).bind fun o1756 => (mcr G S1750 o1756 (fun M => X6_thrown n M)).bind fun v1756 => if v1756 = v1738 then (if v1738 = 0 then ((aJ S1750 x3_23 0).bind fun v1773 => if (lg_cmp v1773 v1750.toInt64) = 0 then (L_law_j2202 G n a0 rec23 x1_23 x2_23 x3_23 x4_23 S1750) else (some (0, S1750))) else (L_law_j2202 G n a0 rec23 x1_23 x2_23 x3_23 x4_23 S1750)) else (some (0, S1750))) else if (v36 &&& 63) = 32 then ((aI B23 a0 0 (x4_23 + 1)).bind fun v1792 => bd (X0_slip G n B23 x1_23 v1792 x3_23) fun v1794 S1794 => (aI S1794 a0 0 (x4_23 + 1)).bind fun v1805 => (rc S1794 x2_23 5).bind fun o1806 => bd (mcall G S1794 o1806 (fun M => X6_slip n M v1805)) fun v1806 S1806 => (rc S1806 x2_23 5).bind fun o1812 => (mcr G S1806 o1812 (fun M => X6_thrown n M)).bind fun v1812 => if v1812 = v1794 then (if v1794 = 0 then ((aJ S1806 x3_23 0).bind fun v1829 => if (lg_cmp v1829 v1806.toInt64) = 0 then (L_law_j2202 G n a0 rec23 x1_23 x2_23 x3_23 x4_23 S1806) else (some (0, S1806))) else (L_law_j2202 G n a0 rec23 x1_23 x2_23 x3_23 x4_23 S1806)) else (some (0, S1806))) else if (v36 &&& 63) = 33 then ((aI B23 a0 0 (x4_23 + 1)).bind fun v1848 => bd (X0_empty G n B23 x1_23 v1848 x3_23) fun v1850 S1850 => (aI S1850 a0 0 (x4_23 + 1)).bind fun v1861 => (rc S1850 x2_23 5).bind fun o1862 => bd (mcall G S1850 o1862 (fun M => X6_empty n M v1861)) fun v1862 S1862 => (rc S1862 x2_23 5).bind fun o1868 => (mcr G S1862 o1868 (fun M => X6_thrown n M)).bind fun v1868 => if v1868 = v1850 then (if v1850 = 0 then ((aJ S1862 x3_23 0).bind fun v1885 => if (lg_cmp v1885 v1862.toInt64) = 0 then (L_law_j2202 G n a0 rec23 x1_23 x2_23 x3_23 x4_23 S1862) else (some (0, S1862))) else (L_law_j2202 G n a0 rec23 x1_23 x2_23 x3_23 x4_23 S1862)) else (some (0, S1862))) else if (v36 &&& 63) = 34 then ((aI B23 a0 0 (x4_23 + 1)).bind fun v1904 => (aI B23 a0 0 (x4_23 + 2)).bind fun v1910 => if v1910 = 0 then (L_law_j1919 G n a0 rec23 x1_23 x2_23 x3_23 x4_23 x1_23 v1904 0 B23) else (L_law_j1919 G n a0 rec23 x1_23 x2_23 x3_23 x4_23 x1_23 v1904 1 B23)) else if (v36 &&& 63) = 35 then ((aI B23 a0 0 (x4_23 + 1)).bind fun v1988 => (aI B23 a0 0 (x4_23 + 2)).bind fun v1994 => bd (X0_set G n B23 x1_23 v1988 v1994 x3_23) fun v1996 S1996 => (aI S1996 a0 0 (x4_23 + 1)).bind fun v2007 => (aI S1996 a0 0 (x4_23 + 2)).bind fun v2013 => (rc S1996 x2_23 5).bind fun o2014 => bd (mcall G S1996 o2014 (fun M => X6_set n M v2007 v2013)) fun v2014 S2014 => (rc S2014 x2_23 5).bind fun o2020 => (mcr G S2014 o2020 (fun M => X6_thrown n M)).bind fun v2020 => if v2020 = v1996 then (if v1996 = 0 then ((aJ S2014 x3_23 0).bind fun v2037 => if (lg_cmp v2037 v2014.toInt64) = 0 then (L_law_j2202 G n a0 rec23 x1_23 x2_23 x3_23 x4_23 S2014) else (some (0, S2014))) else (L_law_j2202 G n a0 rec23 x1_23 x2_23 x3_23 x4_23 S2014)) else (some (0, S2014))) else if (v36 &&& 63) = 36 then (bd (X0_undo G n B23 x1_23 x3_23) fun v2052 S2052 => (rc S2052 x2_23 5).bind fun o2058 => bd (mcall G S2052 o2058 (fun M => X6_undo n M)) fun v2058 S2058 => (rc S2058 x2_23 5).bind fun o2064 => (mcr G S2058 o2064 (fun M => X6_thrown n M)).bind fun v2064 => if v2064 = v2052 then (if v2052 = 0 then ((aJ S2058 x3_23 0).bind fun v2081 => if (lg_cmp v2081 v2058.toInt64) = 0 then (L_law_j2202 G n a0 rec23 x1_23 x2_23 x3_23 x4_23 S2058) else (some (0, S2058))) else (L_law_j2202 G n a0 rec23 x1_23 x2_23 x3_23 x4_23 S2058)) else (some (0, S2058))) else if (v36 &&& 63) = 37 then ((rc B23 x1_23 0).bind fun o2095 => bd (X1_printLoop G n B23 o2095) fun v2095 S2095 => (rc S2095 x2_23 5).bind fun o2099 => bd (mcall G S2095 o2099 (fun M => X6_printLoop n M)) fun v2099 S2099 => if v2095 = v2099 then (L_law_j2202 G n a0 rec23 x1_23 x2_23 x3_23 x4_23 S2099) else (some (0, S2099))) else if (v36 &&& 63) = 38 then ((rc B23 x1_23 0).bind fun o2108 => bd (X1_printChutes G n B23 o2108) fun v2108 S2108 => (rc S2108 x2_23 5).bind fun o2112 => bd (mcall G S2108 o2112 (fun M => X6_printChutes n M)) fun v2112 S2112 => if v2108 = v2112 then (L_law_j2202 G n a0 rec23 x1_23 x2_23 x3_23 x4_23 S2112) else (some (0, S2112))) else if (v36 &&& 63) = 39 then ((aI B23 a0 0 (x4_23 + 1)).bind fun v2126 => (rc B23 x1_23 0).bind fun o2127 => (X1_outputByte G n B23 o2127 v2126).bind fun v2127 => (aI B23 a0 0 (x4_23 + 1)).bind fun v2136 => (rc B23 x2_23 5).bind fun o2137 => bd (mcall G B23 o2137 (fun M => X6_outputByte n M v2136)) fun v2137 S2137 => if v2127 = v2137 then (L_law_j2202 G n a0 rec23 x1_23 x2_23 x3_23 x4_23 S2137) else (some (0, S2137))) else if (v36 &&& 63) = 40 then ((rc B23 x1_23 0).bind fun o2146 => bd (X1_saveState G n B23 o2146) fun v2146 S2146 => (rc S2146 x2_23 5).bind fun o2150 => bd (mcall G S2146 o2150 (fun M => X6_saveState n M)) fun v2150 S2150 => if v2146 = v2150 then (L_law_j2202 G n a0 rec23 x1_23 x2_23 x3_23 x4_23 S2150) else (some (0, S2150))) else if (v36 &&& 63) = 41 then (bd (X0_restoreState G n B23 x1_23 x3_23) fun v2160 S2160 => (rc S2160 x2_23 5).bind fun o2166 => bd (mcall G S2160 o2166 (fun M => X6_restoreState n M)) fun v2166 S2166 => (rc S2166 x2_23 5).bind fun o2172 => (mcr G S2166 o2172 (fun M => X6_thrown n M)).bind fun v2172 => if v2172 = v2160 then (if v2160 = 0 then ((aJ S2166 x3_23 0).bind fun v2189 => if (lg_cmp v2189 v2166.toInt64) = 0 then (L_law_j2202 G n a0 rec23 x1_23 x2_23 x3_23 x4_23 S2166) else (some (0, S2166))) else (L_law_j2202 G n a0 rec23 x1_23 x2_23 x3_23 x4_23 S2166)) else (some (0, S2166))) else L_law_j2202 G n a0 rec23 x1_23 x2_23 x3_23 x4_23 B23)
noncomputable def L_law_b (G : jG) (n : Nat) (σ : jH) (a0 : Option Nat) : Option (Int32 × jH) :=
  bd (nO σ 0 [.null, .int 0, .int 0, .int 0, .null, .null, .null, .null, .null] 9) fun v0 S0 => bd (X1_init G n S0 v0) fun v4 S4 => bd (nO S4 5 [.null, .null, .null, .null, .null, .int 0, .int 0, .int 0, .null, .int 0, .int 0, .int 0, .int 0, .int 0, .int 0, .int 0, .int 0, .int 0, .int 0, .null, .null, .null, .null, .int 0, .null, .int 0] 26) fun v8 S8 => bd (X6h_init G n S8 v8) fun v12 S12 => bd (nJ S12 1) fun v17 S17 => jloop (L_law_h23 G n a0 (some v0) (some v8) (some v17)) n (0, S17)
noncomputable def L_law (G : jG) (n : Nat) (σ : jH) (a0 : Option Nat) : Option (Int32 × jH) := jck σ (L_law_b G n σ a0)
set_option maxHeartbeats 16000000 in
set_option maxRecDepth 100000 in
theorem wk_L_law (l : Launch) (hfl : l.stackTraces = false) (G : jG) (n : Nat) (σ : jH) (a0 : Option Nat) : ∀ t, jWalkN l G RX0 cL_law 9 (some .boolean) 30 1430 [(0, va_rf a0)] σ (Prod.snd : Int32 × jH → jH) (fun t => jrI t.1) t (L_law_b G n σ a0) := by
  intro t p e s m args below meth c ls X hr hl
  have X : jCx p c cL_law 9 s m args RX0 G meth := X
  have L23 : ∀ (x1_23 : Option Nat) (x2_23 : Option Nat) (x3_23 : Option Nat) (n23 : Nat) (x4_23 : Int32) (B23 : jH) (ls : Array Slot), lv_has ls 9 [(0, va_rf a0), (1, va_rf x1_23), (2, va_rf x2_23), (3, va_rf x3_23), (4, .int x4_23)] → jGo l G 30 1430 σ (Prod.snd : Int32 × jH → jH) (fun t => jrI t.1) t p e s m args below meth c (jloop (L_law_h23 G n a0 x1_23 x2_23 x3_23) n23 (x4_23, B23)) B23 (F0 m 23 ls []) := by
    intro x1_23 x2_23 x3_23
    intro n23
    induction n23 with
    | zero => intro x4_23 B23 ls hl; exact J.nil_
    | succ n23 ih23 =>
      have j2202 : ∀ (x4_2202 : Int32) (B2202 : jH) (ls : Array Slot), lv_has ls 9 [(0, va_rf a0), (1, va_rf x1_23), (2, va_rf x2_23), (3, va_rf x3_23), (4, .int x4_2202)] → jGo l G 30 1430 σ (Prod.snd : Int32 × jH → jH) (fun t => jrI t.1) t p e s m args below meth c (L_law_j2202 G n a0 (jloop (L_law_h23 G n a0 x1_23 x2_23 x3_23) n23) x1_23 x2_23 x3_23 x4_2202 B2202) B2202 (F0 m 2202 ls []) := by
        intro x4_2202 B2202 ls hl
        unfold L_law_j2202
        refine J.iinc (k := 4) (lv' := [(4, .int (x4_2202 + 6)), (0, va_rf a0), (1, va_rf x1_23), (2, va_rf x2_23), (3, va_rf x3_23)]) (w := (x4_2202 + 6)) X.1.1 X.1.2.1 dL_law_2202 hl rfl rfl (by decide) (by first | rfl | simp [va_rf_cat, jcI, jcA, jcJ, jcD, jcF]) (fun ls hl => ?_)
        refine J.pu (fun _ _ _ _ k => lv_goto (tgt := 23) X.1.1 X.1.2.1 dL_law_2205 (by decide) k) ?_
        exact ih23 (x4_2202 + 6) B2202 ls (lv_sub hl [1, 2, 3, 4, 0] rfl)
      have j1946 : ∀ (x4_1946 : Int32) (x5_1946 : Int32) (s0_1946 : Option Nat) (s1_1946 : Int32) (s2_1946 : Int32) (B1946 : jH) (ls : Array Slot), lv_has ls 9 [(0, va_rf a0), (1, va_rf x1_23), (2, va_rf x2_23), (3, va_rf x3_23), (4, .int x4_1946), (5, .int x5_1946)] → jGo l G 30 1430 σ (Prod.snd : Int32 × jH → jH) (fun t => jrI t.1) t p e s m args below meth c (L_law_j1946 G n a0 (jloop (L_law_h23 G n a0 x1_23 x2_23 x3_23) n23) x1_23 x2_23 x3_23 x4_1946 x5_1946 s0_1946 s1_1946 s2_1946 B1946) B1946 (F0 m 1946 ls [.int s2_1946, .int s1_1946, va_rf s0_1946]) := by
        intro x4_1946 x5_1946 s0_1946 s1_1946 s2_1946 B1946 ls hl
        unfold L_law_j1946
        refine J.bind (fun o1946 g1946 => ?_)
        refine J.bd' (fun v1946 S1946 h1946 => ?_)
        refine J.cV (q := (RX6, TX6, 26)) (ci := 5) (As := [.int s1_1946, .int s2_1946]) (rest := []) (s2 := [.int v1946]) X ⟨rfl, rfl⟩ (jmcw (fun A hm σ9 hs M => ct_X6_shut l hm σ9 n M s1_1946 s2_1946)) h1946 (fun _ _ => cwV 2 X.1.2.2.2.2 (lw_V q3276 q3277 q3278 q174 q3279) rfl rfl rfl (by decide +kernel) ⟨(Nat.le_of_ble_eq_true rfl), (Nat.le_of_ble_eq_true rfl)⟩) g1946 rfl rfl hl.1 rfl rfl (Nat.le_of_ble_eq_true rfl) dL_law_1946 ?_
        refine J.istore (lv' := [(6, .int v1946), (0, va_rf a0), (1, va_rf x1_23), (2, va_rf x2_23), (3, va_rf x3_23), (4, .int x4_1946), (5, .int x5_1946)]) X.1.1 X.1.2.1 dL_law_1949 hl (by decide) (by first | rfl | simp [va_rf_cat, jcI, jcA, jcJ, jcD, jcF]) (fun ls hl => ?_)
        refine J.pu (fun _ _ _ _ k => W.rload_n X.1.1 X.1.2.1 dL_law_1951 rfl (lv_at hl 3 rfl) k) ?_
        refine J.bind (fun o1952 g1952 => ?_)
        refine J.bind (fun v1952 h1952 => ?_)
        refine J.cV (q := (RX6, TX6, 26)) (ci := 5) (As := []) (rest := []) (s2 := [.int v1952]) X ⟨rfl, rfl⟩ (jmcr (fun A hm σ9 hs M => ct_X6_thrown l hm σ9 n M)) (jrd_of h1952) (fun _ _ => cwV 0 X.1.2.2.2.2 (lw_V q2809 q2810 q2811 q174 q2812) rfl rfl rfl (by decide +kernel) ⟨(Nat.le_of_ble_eq_true rfl), (Nat.le_of_ble_eq_true rfl)⟩) g1952 rfl rfl hl.1 rfl rfl (Nat.le_of_ble_eq_true rfl) dL_law_1952 ?_
        refine J.pu (fun _ _ _ _ k => lv_iload X.1.1 X.1.2.1 dL_law_1955 (lv_at hl 6 rfl) k) ?_
        refine J.br (fun _ _ _ _ ka kb => lv_icmp_eq (tgt := 1962) X.1.1 X.1.2.1 dL_law_1957 (by decide) ka kb) (fun c1957 => ?_) (fun c1957 => ?_)
        · refine J.pu (fun _ _ _ _ k => lv_iload X.1.1 X.1.2.1 dL_law_1962 (lv_at hl 6 rfl) k) ?_
          refine J.br (fun _ _ _ _ ka kb => lv_if_ne (tgt := 1979) X.1.1 X.1.2.1 dL_law_1964 (by decide) kb ka) (fun c1964 => ?_) (fun c1964 => ?_)
          · refine J.pu (fun _ _ _ _ k => W.rload_n X.1.1 X.1.2.1 dL_law_1967 rfl (lv_at hl 4 rfl) k) ?_
            refine J.pu (fun _ _ _ _ k => lv_iconst (v := 0) X.1.1 X.1.2.1 dL_law_1968 (by decide) k) ?_
            refine J.aJ' X dL_law_1969 (fun v1969 h1969 => ?_)
            refine J.pu (fun _ _ _ _ k => lv_iload X.1.1 X.1.2.1 dL_law_1970 (lv_at hl 0 rfl) k) ?_
            refine J.pu (fun _ _ _ _ k => lv_i2l (v := v1946.toInt64) X.1.1 X.1.2.1 dL_law_1972 rfl k) ?_
            refine J.pu (fun _ _ _ _ k => W.lcmp X.1.1 X.1.2.1 dL_law_1973 k) ?_
            refine J.br (fun _ _ _ _ ka kb => lv_if_eq (tgt := 1979) X.1.1 X.1.2.1 dL_law_1974 (by decide) ka kb) (fun c1974 => ?_) (fun c1974 => ?_)
            · refine J.pu (fun _ _ _ _ k => lv_goto (tgt := 2202) X.1.1 X.1.2.1 dL_law_1979 (by decide) k) ?_
              exact j2202 x4_1946 S1946 ls (lv_sub hl [1, 2, 3, 4, 5] rfl)
            · refine J.pu (fun _ _ _ _ k => lv_iconst (v := 0) X.1.1 X.1.2.1 dL_law_1977 (by decide) k) ?_
              exact J.zret (vr := fun t : Int32 × jH => jrI t.1) (fin := Prod.snd) (t := t) X hr (by decide) (by rfl) (by rfl) dL_law_1978
          · refine J.pu (fun _ _ _ _ k => lv_goto (tgt := 2202) X.1.1 X.1.2.1 dL_law_1979 (by decide) k) ?_
            exact j2202 x4_1946 S1946 ls (lv_sub hl [1, 2, 3, 4, 5] rfl)
        · refine J.pu (fun _ _ _ _ k => lv_iconst (v := 0) X.1.1 X.1.2.1 dL_law_1960 (by decide) k) ?_
          exact J.zret (vr := fun t : Int32 × jH => jrI t.1) (fin := Prod.snd) (t := t) X hr (by decide) (by rfl) (by rfl) dL_law_1961
      have j1919 : ∀ (x4_1919 : Int32) (s0_1919 : Option Nat) (s1_1919 : Int32) (s2_1919 : Int32) (B1919 : jH) (ls : Array Slot), lv_has ls 9 [(0, va_rf a0), (1, va_rf x1_23), (2, va_rf x2_23), (3, va_rf x3_23), (4, .int x4_1919)] → jGo l G 30 1430 σ (Prod.snd : Int32 × jH → jH) (fun t => jrI t.1) t p e s m args below meth c (L_law_j1919 G n a0 (jloop (L_law_h23 G n a0 x1_23 x2_23 x3_23) n23) x1_23 x2_23 x3_23 x4_1919 s0_1919 s1_1919 s2_1919 B1919) B1919 (F0 m 1919 ls [.int s2_1919, .int s1_1919, va_rf s0_1919]) := by
        intro x4_1919 s0_1919 s1_1919 s2_1919 B1919 ls hl
        unfold L_law_j1919
        refine J.pu (fun _ _ _ _ k => W.rload_n X.1.1 X.1.2.1 dL_law_1919 rfl (lv_at hl 3 rfl) k) ?_
        refine J.bd' (fun v1920 S1920 h1920 => ?_)
        refine J.cSW (hh := [(0, 10, 13, 22)]) (As := [va_rf s0_1919, .int s1_1919, .int s2_1919, va_rf x3_23]) (rest := []) (s2 := [.int v1920]) X ⟨rfl, rfl⟩ (ct_X0_shut l hfl G n B1919 s0_1919 s1_1919 s2_1919 x3_23) h1920 (fun _ _ => vx_cwSW 4 X.1.2.2.2.2 (lw_SW q2661 q2662 q137 q2663) rfl rfl rfl (by decide +kernel) ⟨(Nat.le_of_ble_eq_true rfl), (Nat.le_of_ble_eq_true rfl)⟩) rfl hl.1 rfl rfl (Nat.le_of_ble_eq_true rfl) dL_law_1920 ?_
        refine J.istore (lv' := [(5, .int v1920), (0, va_rf a0), (1, va_rf x1_23), (2, va_rf x2_23), (3, va_rf x3_23), (4, .int x4_1919)]) X.1.1 X.1.2.1 dL_law_1923 hl (by decide) (by first | rfl | simp [va_rf_cat, jcI, jcA, jcJ, jcD, jcF]) (fun ls hl => ?_)
        refine J.pu (fun _ _ _ _ k => W.rload_n X.1.1 X.1.2.1 dL_law_1925 rfl (lv_at hl 3 rfl) k) ?_
        refine J.pu (fun _ _ _ _ k => W.rload_n X.1.1 X.1.2.1 dL_law_1926 rfl (lv_at hl 1 rfl) k) ?_
        refine J.pu (fun _ _ _ _ k => lv_iload X.1.1 X.1.2.1 dL_law_1927 (lv_at hl 5 rfl) k) ?_
        refine J.pu (fun _ _ _ _ k => lv_iconst (v := 1) X.1.1 X.1.2.1 dL_law_1929 (by decide) k) ?_
        refine J.pu (fun _ _ _ _ k => lv_iadd X.1.1 X.1.2.1 dL_law_1930 k) ?_
        refine J.aI0 X dL_law_1931 (fun v1931 h1931 => ?_)
        refine J.pu (fun _ _ _ _ k => W.rload_n X.1.1 X.1.2.1 dL_law_1932 rfl (lv_at hl 1 rfl) k) ?_
        refine J.pu (fun _ _ _ _ k => lv_iload X.1.1 X.1.2.1 dL_law_1933 (lv_at hl 5 rfl) k) ?_
        refine J.pu (fun _ _ _ _ k => lv_iconst (v := 2) X.1.1 X.1.2.1 dL_law_1935 (by decide) k) ?_
        refine J.pu (fun _ _ _ _ k => lv_iadd X.1.1 X.1.2.1 dL_law_1936 k) ?_
        refine J.aI0 X dL_law_1937 (fun v1937 h1937 => ?_)
        refine J.br (fun _ _ _ _ ka kb => lv_if_eq (tgt := 1945) X.1.1 X.1.2.1 dL_law_1938 (by decide) ka kb) (fun c1938 => ?_) (fun c1938 => ?_)
        · refine J.pu (fun _ _ _ _ k => lv_iconst (v := 0) X.1.1 X.1.2.1 dL_law_1945 (by decide) k) ?_
          exact j1946 x4_1919 v1920 x2_23 v1931 0 S1920 ls (lv_sub hl [1, 2, 3, 4, 5, 0] rfl)
        · refine J.pu (fun _ _ _ _ k => lv_iconst (v := 1) X.1.1 X.1.2.1 dL_law_1941 (by decide) k) ?_
          refine J.pu (fun _ _ _ _ k => lv_goto (tgt := 1946) X.1.1 X.1.2.1 dL_law_1942 (by decide) k) ?_
          exact j1946 x4_1919 v1920 x2_23 v1931 1 S1920 ls (lv_sub hl [1, 2, 3, 4, 5, 0] rfl)
      intro x4_23 B23 ls hl
      refine J.eq (jloop_s _ _ _) ?_
      dsimp only [L_law_h23]
      refine J.pu (fun _ _ _ _ k => lv_iload X.1.1 X.1.2.1 dL_law_23 (lv_at hl 4 rfl) k) ?_
      refine J.pu (fun _ _ _ _ k => W.rload_n X.1.1 X.1.2.1 dL_law_25 rfl (lv_at hl 0 rfl) k) ?_
      refine J.len X dL_law_26 (fun v26 h26 => ?_)
      refine J.pu (fun _ _ _ _ k => lv_bipush (v := 6) X.1.1 X.1.2.1 dL_law_27 (by decide) k) ?_
      refine J.pu (fun _ _ _ _ k => lv_isub X.1.1 X.1.2.1 dL_law_29 k) ?_
      refine J.br (fun _ _ _ _ ka kb => lv_icmp_gt (tgt := 2208) X.1.1 X.1.2.1 dL_law_30 (by decide) ka kb) (fun c30 => ?_) (fun c30 => ?_)
      · refine J.pu (fun _ _ _ _ k => lv_iconst (v := 1) X.1.1 X.1.2.1 dL_law_2208 (by decide) k) ?_
        exact J.zret (vr := fun t : Int32 × jH => jrI t.1) (fin := Prod.snd) (t := t) X hr (by decide) (by rfl) (by rfl) dL_law_2209
      · refine J.pu (fun _ _ _ _ k => W.rload_n X.1.1 X.1.2.1 dL_law_33 rfl (lv_at hl 0 rfl) k) ?_
        refine J.pu (fun _ _ _ _ k => lv_iload X.1.1 X.1.2.1 dL_law_34 (lv_at hl 4 rfl) k) ?_
        refine J.aI0 X dL_law_36 (fun v36 h36 => ?_)
        refine J.pu (fun _ _ _ _ k => lv_bipush (v := 63) X.1.1 X.1.2.1 dL_law_37 (by decide) k) ?_
        refine J.pu (fun _ _ _ _ k => lv_iand X.1.1 X.1.2.1 dL_law_39 k) ?_
        refine J.ite (fun c40_0 => ?_) (fun c40_0 => ?_)
        · refine J.pu (fun _ _ _ _ k => lv_tableIn (tgt := 224) (off := 184) X.1.1 X.1.2.1 dL_law_40 (by rw [c40_0]; decide) (by rw [c40_0]; decide) (by rw [c40_0]; decide) (by decide) k) ?_
          refine J.pu (fun _ _ _ _ k => W.rload_n X.1.1 X.1.2.1 dL_law_224 rfl (lv_at hl 1 rfl) k) ?_
          refine J.pu (fun _ _ _ _ k => W.rload_n X.1.1 X.1.2.1 dL_law_225 rfl (lv_at hl 0 rfl) k) ?_
          refine J.pu (fun _ _ _ _ k => lv_iload X.1.1 X.1.2.1 dL_law_226 (lv_at hl 4 rfl) k) ?_
          refine J.pu (fun _ _ _ _ k => lv_iconst (v := 1) X.1.1 X.1.2.1 dL_law_228 (by decide) k) ?_
          refine J.pu (fun _ _ _ _ k => lv_iadd X.1.1 X.1.2.1 dL_law_229 k) ?_
          refine J.aI0 X dL_law_230 (fun v230 h230 => ?_)
          refine J.pu (fun _ _ _ _ k => W.rload_n X.1.1 X.1.2.1 dL_law_231 rfl (lv_at hl 0 rfl) k) ?_
          refine J.pu (fun _ _ _ _ k => lv_iload X.1.1 X.1.2.1 dL_law_232 (lv_at hl 4 rfl) k) ?_
          refine J.pu (fun _ _ _ _ k => lv_iconst (v := 2) X.1.1 X.1.2.1 dL_law_234 (by decide) k) ?_
          refine J.pu (fun _ _ _ _ k => lv_iadd X.1.1 X.1.2.1 dL_law_235 k) ?_
          refine J.aI0 X dL_law_236 (fun v236 h236 => ?_)
          refine J.pu (fun _ _ _ _ k => W.rload_n X.1.1 X.1.2.1 dL_law_237 rfl (lv_at hl 0 rfl) k) ?_
          refine J.pu (fun _ _ _ _ k => lv_iload X.1.1 X.1.2.1 dL_law_238 (lv_at hl 4 rfl) k) ?_
          refine J.pu (fun _ _ _ _ k => lv_iconst (v := 3) X.1.1 X.1.2.1 dL_law_240 (by decide) k) ?_
          refine J.pu (fun _ _ _ _ k => lv_iadd X.1.1 X.1.2.1 dL_law_241 k) ?_
          refine J.aI0 X dL_law_242 (fun v242 h242 => ?_)
          refine J.pu (fun _ _ _ _ k => W.rload_n X.1.1 X.1.2.1 dL_law_243 rfl (lv_at hl 0 rfl) k) ?_
          refine J.pu (fun _ _ _ _ k => lv_iload X.1.1 X.1.2.1 dL_law_244 (lv_at hl 4 rfl) k) ?_
          refine J.pu (fun _ _ _ _ k => lv_iconst (v := 4) X.1.1 X.1.2.1 dL_law_246 (by decide) k) ?_
          refine J.pu (fun _ _ _ _ k => lv_iadd X.1.1 X.1.2.1 dL_law_247 k) ?_
          refine J.aI0 X dL_law_248 (fun v248 h248 => ?_)
          refine J.pu (fun _ _ _ _ k => W.rload_n X.1.1 X.1.2.1 dL_law_249 rfl (lv_at hl 0 rfl) k) ?_
          refine J.pu (fun _ _ _ _ k => lv_iload X.1.1 X.1.2.1 dL_law_250 (lv_at hl 4 rfl) k) ?_
          refine J.pu (fun _ _ _ _ k => lv_iconst (v := 5) X.1.1 X.1.2.1 dL_law_252 (by decide) k) ?_
          refine J.pu (fun _ _ _ _ k => lv_iadd X.1.1 X.1.2.1 dL_law_253 k) ?_
          refine J.aI0 X dL_law_254 (fun v254 h254 => ?_)
          refine J.bind (fun o255 g255 => ?_)
          refine J.bd' (fun v255 S255 h255 => ?_)
          refine J.cV (q := (RX1, TX1, 9)) (ci := 0) (As := [.int v230, .int v236, .int v242, .int v248, .int v254]) (rest := []) (s2 := [.int v255]) X ⟨rfl, rfl⟩ (ct_X1_appendInput l G n B23 o255 v230 v236 v242 v248 v254) h255 (fun _ _ => cwV 5 X.1.2.2.2.2 (lw_V q1353 q1354 q1355 q138 q1356) rfl rfl rfl (by decide +kernel) ⟨(Nat.le_of_ble_eq_true rfl), (Nat.le_of_ble_eq_true rfl)⟩) g255 rfl rfl hl.1 rfl rfl (Nat.le_of_ble_eq_true rfl) dL_law_255 ?_
          refine J.pu (fun _ _ _ _ k => W.rload_n X.1.1 X.1.2.1 dL_law_258 rfl (lv_at hl 2 rfl) k) ?_
          refine J.pu (fun _ _ _ _ k => W.rload_n X.1.1 X.1.2.1 dL_law_259 rfl (lv_at hl 0 rfl) k) ?_
          refine J.pu (fun _ _ _ _ k => lv_iload X.1.1 X.1.2.1 dL_law_260 (lv_at hl 4 rfl) k) ?_
          refine J.pu (fun _ _ _ _ k => lv_iconst (v := 1) X.1.1 X.1.2.1 dL_law_262 (by decide) k) ?_
          refine J.pu (fun _ _ _ _ k => lv_iadd X.1.1 X.1.2.1 dL_law_263 k) ?_
          refine J.aI0 X dL_law_264 (fun v264 h264 => ?_)
          refine J.pu (fun _ _ _ _ k => W.rload_n X.1.1 X.1.2.1 dL_law_265 rfl (lv_at hl 0 rfl) k) ?_
          refine J.pu (fun _ _ _ _ k => lv_iload X.1.1 X.1.2.1 dL_law_266 (lv_at hl 4 rfl) k) ?_
          refine J.pu (fun _ _ _ _ k => lv_iconst (v := 2) X.1.1 X.1.2.1 dL_law_268 (by decide) k) ?_
          refine J.pu (fun _ _ _ _ k => lv_iadd X.1.1 X.1.2.1 dL_law_269 k) ?_
          refine J.aI0 X dL_law_270 (fun v270 h270 => ?_)
          refine J.pu (fun _ _ _ _ k => W.rload_n X.1.1 X.1.2.1 dL_law_271 rfl (lv_at hl 0 rfl) k) ?_
          refine J.pu (fun _ _ _ _ k => lv_iload X.1.1 X.1.2.1 dL_law_272 (lv_at hl 4 rfl) k) ?_
          refine J.pu (fun _ _ _ _ k => lv_iconst (v := 3) X.1.1 X.1.2.1 dL_law_274 (by decide) k) ?_
          refine J.pu (fun _ _ _ _ k => lv_iadd X.1.1 X.1.2.1 dL_law_275 k) ?_
          refine J.aI0 X dL_law_276 (fun v276 h276 => ?_)
          refine J.pu (fun _ _ _ _ k => W.rload_n X.1.1 X.1.2.1 dL_law_277 rfl (lv_at hl 0 rfl) k) ?_
          refine J.pu (fun _ _ _ _ k => lv_iload X.1.1 X.1.2.1 dL_law_278 (lv_at hl 4 rfl) k) ?_
          refine J.pu (fun _ _ _ _ k => lv_iconst (v := 4) X.1.1 X.1.2.1 dL_law_280 (by decide) k) ?_
          refine J.pu (fun _ _ _ _ k => lv_iadd X.1.1 X.1.2.1 dL_law_281 k) ?_
          refine J.aI0 X dL_law_282 (fun v282 h282 => ?_)
          refine J.pu (fun _ _ _ _ k => W.rload_n X.1.1 X.1.2.1 dL_law_283 rfl (lv_at hl 0 rfl) k) ?_
          refine J.pu (fun _ _ _ _ k => lv_iload X.1.1 X.1.2.1 dL_law_284 (lv_at hl 4 rfl) k) ?_
          refine J.pu (fun _ _ _ _ k => lv_iconst (v := 5) X.1.1 X.1.2.1 dL_law_286 (by decide) k) ?_
          refine J.pu (fun _ _ _ _ k => lv_iadd X.1.1 X.1.2.1 dL_law_287 k) ?_
          refine J.aI0 X dL_law_288 (fun v288 h288 => ?_)
          refine J.bind (fun o289 g289 => ?_)
          refine J.bd' (fun v289 S289 h289 => ?_)
          refine J.cV (q := (RX6, TX6, 26)) (ci := 5) (As := [.int v264, .int v270, .int v276, .int v282, .int v288]) (rest := [.int v255]) (s2 := [.int v289, .int v255]) X ⟨rfl, rfl⟩ (jmcw (fun A hm σ9 hs M => ct_X6_appendInput l hm σ9 n M v264 v270 v276 v282 v288)) h289 (fun _ _ => cwV 5 X.1.2.2.2.2 (lw_V q2813 q2814 q2815 q174 q2816) rfl rfl rfl (by decide +kernel) ⟨(Nat.le_of_ble_eq_true rfl), (Nat.le_of_ble_eq_true rfl)⟩) g289 rfl rfl hl.1 rfl rfl (Nat.le_of_ble_eq_true rfl) dL_law_289 ?_
          refine J.br (fun _ _ _ _ ka kb => lv_icmp_eq (tgt := 2202) X.1.1 X.1.2.1 dL_law_292 (by decide) ka kb) (fun c292 => ?_) (fun c292 => ?_)
          · exact j2202 x4_23 S289 ls (lv_sub hl [0, 1, 2, 3, 4] rfl)
          · refine J.pu (fun _ _ _ _ k => lv_iconst (v := 0) X.1.1 X.1.2.1 dL_law_295 (by decide) k) ?_
            exact J.zret (vr := fun t : Int32 × jH => jrI t.1) (fin := Prod.snd) (t := t) X hr (by decide) (by rfl) (by rfl) dL_law_296
        refine J.ite (fun c40_1 => ?_) (fun c40_1 => ?_)
        · refine J.pu (fun _ _ _ _ k => lv_tableIn (tgt := 297) (off := 257) X.1.1 X.1.2.1 dL_law_40 (by rw [c40_1]; decide) (by rw [c40_1]; decide) (by rw [c40_1]; decide) (by decide) k) ?_
          refine J.pu (fun _ _ _ _ k => W.rload_n X.1.1 X.1.2.1 dL_law_297 rfl (lv_at hl 1 rfl) k) ?_
          refine J.pu (fun _ _ _ _ k => W.rload_n X.1.1 X.1.2.1 dL_law_298 rfl (lv_at hl 0 rfl) k) ?_
          refine J.pu (fun _ _ _ _ k => lv_iload X.1.1 X.1.2.1 dL_law_299 (lv_at hl 4 rfl) k) ?_
          refine J.pu (fun _ _ _ _ k => lv_iconst (v := 1) X.1.1 X.1.2.1 dL_law_301 (by decide) k) ?_
          refine J.pu (fun _ _ _ _ k => lv_iadd X.1.1 X.1.2.1 dL_law_302 k) ?_
          refine J.aI0 X dL_law_303 (fun v303 h303 => ?_)
          refine J.bind (fun o304 g304 => ?_)
          refine J.bd' (fun v304 S304 h304 => ?_)
          refine J.cV (q := (RX1, TX1, 9)) (ci := 0) (As := [.int v303]) (rest := []) (s2 := [.int v304]) X ⟨rfl, rfl⟩ (ct_X1_truncateInput l G n B23 o304 v303) h304 (fun _ _ => cwV 1 X.1.2.2.2.2 (lw_V q1361 q1362 q1363 q138 q1364) rfl rfl rfl (by decide +kernel) ⟨(Nat.le_of_ble_eq_true rfl), (Nat.le_of_ble_eq_true rfl)⟩) g304 rfl rfl hl.1 rfl rfl (Nat.le_of_ble_eq_true rfl) dL_law_304 ?_
          refine J.pu (fun _ _ _ _ k => W.rload_n X.1.1 X.1.2.1 dL_law_307 rfl (lv_at hl 2 rfl) k) ?_
          refine J.pu (fun _ _ _ _ k => W.rload_n X.1.1 X.1.2.1 dL_law_308 rfl (lv_at hl 0 rfl) k) ?_
          refine J.pu (fun _ _ _ _ k => lv_iload X.1.1 X.1.2.1 dL_law_309 (lv_at hl 4 rfl) k) ?_
          refine J.pu (fun _ _ _ _ k => lv_iconst (v := 1) X.1.1 X.1.2.1 dL_law_311 (by decide) k) ?_
          refine J.pu (fun _ _ _ _ k => lv_iadd X.1.1 X.1.2.1 dL_law_312 k) ?_
          refine J.aI0 X dL_law_313 (fun v313 h313 => ?_)
          refine J.bind (fun o314 g314 => ?_)
          refine J.bd' (fun v314 S314 h314 => ?_)
          refine J.cV (q := (RX6, TX6, 26)) (ci := 5) (As := [.int v313]) (rest := [.int v304]) (s2 := [.int v314, .int v304]) X ⟨rfl, rfl⟩ (jmcw (fun A hm σ9 hs M => ct_X6_truncateInput l hm σ9 n M v313)) h314 (fun _ _ => cwV 1 X.1.2.2.2.2 (lw_V q2821 q2822 q2823 q174 q2824) rfl rfl rfl (by decide +kernel) ⟨(Nat.le_of_ble_eq_true rfl), (Nat.le_of_ble_eq_true rfl)⟩) g314 rfl rfl hl.1 rfl rfl (Nat.le_of_ble_eq_true rfl) dL_law_314 ?_
          refine J.br (fun _ _ _ _ ka kb => lv_icmp_eq (tgt := 2202) X.1.1 X.1.2.1 dL_law_317 (by decide) ka kb) (fun c317 => ?_) (fun c317 => ?_)
          · exact j2202 x4_23 S314 ls (lv_sub hl [0, 1, 2, 3, 4] rfl)
          · refine J.pu (fun _ _ _ _ k => lv_iconst (v := 0) X.1.1 X.1.2.1 dL_law_320 (by decide) k) ?_
            exact J.zret (vr := fun t : Int32 × jH => jrI t.1) (fin := Prod.snd) (t := t) X hr (by decide) (by rfl) (by rfl) dL_law_321
        refine J.ite (fun c40_2 => ?_) (fun c40_2 => ?_)
        · refine J.pu (fun _ _ _ _ k => lv_tableIn (tgt := 322) (off := 282) X.1.1 X.1.2.1 dL_law_40 (by rw [c40_2]; decide) (by rw [c40_2]; decide) (by rw [c40_2]; decide) (by decide) k) ?_
          refine J.pu (fun _ _ _ _ k => W.rload_n X.1.1 X.1.2.1 dL_law_322 rfl (lv_at hl 1 rfl) k) ?_
          refine J.bind (fun o323 g323 => ?_)
          refine J.bd' (fun v323 S323 h323 => ?_)
          refine J.cVW (hh := [(4, 55, 62, 99), (4, 55, 76, 0), (62, 69, 76, 0)]) (q := (RX1, TX1, 9)) (ci := 0) (As := []) (rest := []) (s2 := [.int v323]) X ⟨rfl, rfl⟩ (ct_X1_loadLoop l hfl G n B23 o323) h323 (fun _ _ => vx_cwVW 0 X.1.2.2.2.2 (lw_VW q1368 q1369 q1370 q138 q1371) rfl rfl rfl (by decide +kernel) ⟨(Nat.le_of_ble_eq_true rfl), (Nat.le_of_ble_eq_true rfl)⟩) g323 rfl rfl hl.1 rfl rfl (Nat.le_of_ble_eq_true rfl) dL_law_323 ?_
          refine J.pu (fun _ _ _ _ k => W.rload_n X.1.1 X.1.2.1 dL_law_326 rfl (lv_at hl 2 rfl) k) ?_
          refine J.bind (fun o327 g327 => ?_)
          refine J.bd' (fun v327 S327 h327 => ?_)
          refine J.cV (q := (RX6, TX6, 26)) (ci := 5) (As := []) (rest := [.int v323]) (s2 := [.int v327, .int v323]) X ⟨rfl, rfl⟩ (jmcw (fun A hm σ9 hs M => ct_X6_loadLoop l hm σ9 hs n M)) h327 (fun _ _ => cwV 0 X.1.2.2.2.2 (lw_V q2828 q2829 q2830 q174 q2831) rfl rfl rfl (by decide +kernel) ⟨(Nat.le_of_ble_eq_true rfl), (Nat.le_of_ble_eq_true rfl)⟩) g327 rfl rfl hl.1 rfl rfl (Nat.le_of_ble_eq_true rfl) dL_law_327 ?_
          refine J.br (fun _ _ _ _ ka kb => lv_icmp_eq (tgt := 2202) X.1.1 X.1.2.1 dL_law_330 (by decide) ka kb) (fun c330 => ?_) (fun c330 => ?_)
          · exact j2202 x4_23 S327 ls (lv_sub hl [0, 1, 2, 3, 4] rfl)
          · refine J.pu (fun _ _ _ _ k => lv_iconst (v := 0) X.1.1 X.1.2.1 dL_law_333 (by decide) k) ?_
            exact J.zret (vr := fun t : Int32 × jH => jrI t.1) (fin := Prod.snd) (t := t) X hr (by decide) (by rfl) (by rfl) dL_law_334
        refine J.ite (fun c40_3 => ?_) (fun c40_3 => ?_)
        · refine J.pu (fun _ _ _ _ k => lv_tableIn (tgt := 335) (off := 295) X.1.1 X.1.2.1 dL_law_40 (by rw [c40_3]; decide) (by rw [c40_3]; decide) (by rw [c40_3]; decide) (by decide) k) ?_
          refine J.pu (fun _ _ _ _ k => W.rload_n X.1.1 X.1.2.1 dL_law_335 rfl (lv_at hl 1 rfl) k) ?_
          refine J.bind (fun o336 g336 => ?_)
          refine J.bd' (fun v336 S336 h336 => ?_)
          refine J.cVW (hh := [(4, 20, 27, 99), (4, 20, 41, 0), (27, 34, 41, 0)]) (q := (RX1, TX1, 9)) (ci := 0) (As := []) (rest := []) (s2 := [.int v336]) X ⟨rfl, rfl⟩ (ct_X1_playScript l hfl G n B23 o336) h336 (fun _ _ => vx_cwVW 0 X.1.2.2.2.2 (lw_VW q1756 q1757 q1758 q138 q1759) rfl rfl rfl (by decide +kernel) ⟨(Nat.le_of_ble_eq_true rfl), (Nat.le_of_ble_eq_true rfl)⟩) g336 rfl rfl hl.1 rfl rfl (Nat.le_of_ble_eq_true rfl) dL_law_336 ?_
          refine J.pu (fun _ _ _ _ k => W.rload_n X.1.1 X.1.2.1 dL_law_339 rfl (lv_at hl 2 rfl) k) ?_
          refine J.bind (fun o340 g340 => ?_)
          refine J.bd' (fun v340 S340 h340 => ?_)
          refine J.cV (q := (RX6, TX6, 26)) (ci := 5) (As := []) (rest := [.int v336]) (s2 := [.int v340, .int v336]) X ⟨rfl, rfl⟩ (jmcw (fun A hm σ9 hs M => ct_X6_playScript l hm σ9 hs n M)) h340 (fun _ _ => cwV 0 X.1.2.2.2.2 (lw_V q2921 q2922 q2923 q174 q2924) rfl rfl rfl (by decide +kernel) ⟨(Nat.le_of_ble_eq_true rfl), (Nat.le_of_ble_eq_true rfl)⟩) g340 rfl rfl hl.1 rfl rfl (Nat.le_of_ble_eq_true rfl) dL_law_340 ?_
          refine J.br (fun _ _ _ _ ka kb => lv_icmp_eq (tgt := 2202) X.1.1 X.1.2.1 dL_law_343 (by decide) ka kb) (fun c343 => ?_) (fun c343 => ?_)
          · exact j2202 x4_23 S340 ls (lv_sub hl [0, 1, 2, 3, 4] rfl)
          · refine J.pu (fun _ _ _ _ k => lv_iconst (v := 0) X.1.1 X.1.2.1 dL_law_346 (by decide) k) ?_
            exact J.zret (vr := fun t : Int32 × jH => jrI t.1) (fin := Prod.snd) (t := t) X hr (by decide) (by rfl) (by rfl) dL_law_347
        refine J.ite (fun c40_4 => ?_) (fun c40_4 => ?_)
        · refine J.pu (fun _ _ _ _ k => lv_tableIn (tgt := 348) (off := 308) X.1.1 X.1.2.1 dL_law_40 (by rw [c40_4]; decide) (by rw [c40_4]; decide) (by rw [c40_4]; decide) (by decide) k) ?_
          refine J.pu (fun _ _ _ _ k => W.rload_n X.1.1 X.1.2.1 dL_law_348 rfl (lv_at hl 1 rfl) k) ?_
          refine J.bind (fun o349 g349 => ?_)
          refine J.bind (fun v349 h349 => ?_)
          refine J.cV (q := (RX1, TX1, 9)) (ci := 0) (As := []) (rest := []) (s2 := [.int v349]) X ⟨rfl, rfl⟩ (ct_X1_errorCode l G n B23 o349) (jrd_of h349) (fun _ _ => cwV 0 X.1.2.2.2.2 (lw_V q2145 q2146 q2147 q138 q2148) rfl rfl rfl (by decide +kernel) ⟨(Nat.le_of_ble_eq_true rfl), (Nat.le_of_ble_eq_true rfl)⟩) g349 rfl rfl hl.1 rfl rfl (Nat.le_of_ble_eq_true rfl) dL_law_349 ?_
          refine J.pu (fun _ _ _ _ k => W.rload_n X.1.1 X.1.2.1 dL_law_352 rfl (lv_at hl 2 rfl) k) ?_
          refine J.bind (fun o353 g353 => ?_)
          refine J.bd' (fun v353 S353 h353 => ?_)
          refine J.cV (q := (RX6, TX6, 26)) (ci := 5) (As := []) (rest := [.int v349]) (s2 := [.int v353, .int v349]) X ⟨rfl, rfl⟩ (jmcw (fun A hm σ9 hs M => ct_X6_errorCode l hm σ9 n M)) h353 (fun _ _ => cwV 0 X.1.2.2.2.2 (lw_V q3063 q3064 q3065 q174 q3066) rfl rfl rfl (by decide +kernel) ⟨(Nat.le_of_ble_eq_true rfl), (Nat.le_of_ble_eq_true rfl)⟩) g353 rfl rfl hl.1 rfl rfl (Nat.le_of_ble_eq_true rfl) dL_law_353 ?_
          refine J.br (fun _ _ _ _ ka kb => lv_icmp_eq (tgt := 2202) X.1.1 X.1.2.1 dL_law_356 (by decide) ka kb) (fun c356 => ?_) (fun c356 => ?_)
          · exact j2202 x4_23 S353 ls (lv_sub hl [0, 1, 2, 3, 4] rfl)
          · refine J.pu (fun _ _ _ _ k => lv_iconst (v := 0) X.1.1 X.1.2.1 dL_law_359 (by decide) k) ?_
            exact J.zret (vr := fun t : Int32 × jH => jrI t.1) (fin := Prod.snd) (t := t) X hr (by decide) (by rfl) (by rfl) dL_law_360
        refine J.ite (fun c40_5 => ?_) (fun c40_5 => ?_)
        · refine J.pu (fun _ _ _ _ k => lv_tableIn (tgt := 361) (off := 321) X.1.1 X.1.2.1 dL_law_40 (by rw [c40_5]; decide) (by rw [c40_5]; decide) (by rw [c40_5]; decide) (by decide) k) ?_
          refine J.pu (fun _ _ _ _ k => W.rload_n X.1.1 X.1.2.1 dL_law_361 rfl (lv_at hl 1 rfl) k) ?_
          refine J.bind (fun o362 g362 => ?_)
          refine J.bind (fun v362 h362 => ?_)
          refine J.cV (q := (RX1, TX1, 9)) (ci := 0) (As := []) (rest := []) (s2 := [.int v362]) X ⟨rfl, rfl⟩ (ct_X1_errorOffset l G n B23 o362) (jrd_of h362) (fun _ _ => cwV 0 X.1.2.2.2.2 (lw_V q2149 q2150 q2151 q138 q2152) rfl rfl rfl (by decide +kernel) ⟨(Nat.le_of_ble_eq_true rfl), (Nat.le_of_ble_eq_true rfl)⟩) g362 rfl rfl hl.1 rfl rfl (Nat.le_of_ble_eq_true rfl) dL_law_362 ?_
          refine J.pu (fun _ _ _ _ k => W.rload_n X.1.1 X.1.2.1 dL_law_365 rfl (lv_at hl 2 rfl) k) ?_
          refine J.bind (fun o366 g366 => ?_)
          refine J.bd' (fun v366 S366 h366 => ?_)
          refine J.cV (q := (RX6, TX6, 26)) (ci := 5) (As := []) (rest := [.int v362]) (s2 := [.int v366, .int v362]) X ⟨rfl, rfl⟩ (jmcw (fun A hm σ9 hs M => ct_X6_errorOffset l hm σ9 n M)) h366 (fun _ _ => cwV 0 X.1.2.2.2.2 (lw_V q3067 q3068 q3069 q174 q3070) rfl rfl rfl (by decide +kernel) ⟨(Nat.le_of_ble_eq_true rfl), (Nat.le_of_ble_eq_true rfl)⟩) g366 rfl rfl hl.1 rfl rfl (Nat.le_of_ble_eq_true rfl) dL_law_366 ?_
          refine J.br (fun _ _ _ _ ka kb => lv_icmp_eq (tgt := 2202) X.1.1 X.1.2.1 dL_law_369 (by decide) ka kb) (fun c369 => ?_) (fun c369 => ?_)
          · exact j2202 x4_23 S366 ls (lv_sub hl [0, 1, 2, 3, 4] rfl)
          · refine J.pu (fun _ _ _ _ k => lv_iconst (v := 0) X.1.1 X.1.2.1 dL_law_372 (by decide) k) ?_
            exact J.zret (vr := fun t : Int32 × jH => jrI t.1) (fin := Prod.snd) (t := t) X hr (by decide) (by rfl) (by rfl) dL_law_373
        refine J.ite (fun c40_6 => ?_) (fun c40_6 => ?_)
        · refine J.pu (fun _ _ _ _ k => lv_tableIn (tgt := 374) (off := 334) X.1.1 X.1.2.1 dL_law_40 (by rw [c40_6]; decide) (by rw [c40_6]; decide) (by rw [c40_6]; decide) (by decide) k) ?_
          refine J.pu (fun _ _ _ _ k => W.rload_n X.1.1 X.1.2.1 dL_law_374 rfl (lv_at hl 1 rfl) k) ?_
          refine J.pu (fun _ _ _ _ k => W.rload_n X.1.1 X.1.2.1 dL_law_375 rfl (lv_at hl 0 rfl) k) ?_
          refine J.pu (fun _ _ _ _ k => lv_iload X.1.1 X.1.2.1 dL_law_376 (lv_at hl 4 rfl) k) ?_
          refine J.pu (fun _ _ _ _ k => lv_iconst (v := 1) X.1.1 X.1.2.1 dL_law_378 (by decide) k) ?_
          refine J.pu (fun _ _ _ _ k => lv_iadd X.1.1 X.1.2.1 dL_law_379 k) ?_
          refine J.aI0 X dL_law_380 (fun v380 h380 => ?_)
          refine J.pu (fun _ _ _ _ k => W.rload_n X.1.1 X.1.2.1 dL_law_381 rfl (lv_at hl 3 rfl) k) ?_
          refine J.bd' (fun v382 S382 h382 => ?_)
          refine J.cSW (hh := [(0, 9, 12, 13)]) (As := [va_rf x1_23, .int v380, va_rf x3_23]) (rest := []) (s2 := [.int v382]) X ⟨rfl, rfl⟩ (ct_X0_count l hfl G n B23 x1_23 v380 x3_23) h382 (fun _ _ => vx_cwSW 3 X.1.2.2.2.2 (lw_SW q2382 q2383 q137 q2384) rfl rfl rfl (by decide +kernel) ⟨(Nat.le_of_ble_eq_true rfl), (Nat.le_of_ble_eq_true rfl)⟩) rfl hl.1 rfl rfl (Nat.le_of_ble_eq_true rfl) dL_law_382 ?_
          refine J.istore (lv' := [(5, .int v382), (0, va_rf a0), (1, va_rf x1_23), (2, va_rf x2_23), (3, va_rf x3_23), (4, .int x4_23)]) X.1.1 X.1.2.1 dL_law_385 hl (by decide) (by first | rfl | simp [va_rf_cat, jcI, jcA, jcJ, jcD, jcF]) (fun ls hl => ?_)
          refine J.pu (fun _ _ _ _ k => W.rload_n X.1.1 X.1.2.1 dL_law_387 rfl (lv_at hl 3 rfl) k) ?_
          refine J.pu (fun _ _ _ _ k => W.rload_n X.1.1 X.1.2.1 dL_law_388 rfl (lv_at hl 1 rfl) k) ?_
          refine J.pu (fun _ _ _ _ k => lv_iload X.1.1 X.1.2.1 dL_law_389 (lv_at hl 5 rfl) k) ?_
          refine J.pu (fun _ _ _ _ k => lv_iconst (v := 1) X.1.1 X.1.2.1 dL_law_391 (by decide) k) ?_
          refine J.pu (fun _ _ _ _ k => lv_iadd X.1.1 X.1.2.1 dL_law_392 k) ?_
          refine J.aI0 X dL_law_393 (fun v393 h393 => ?_)
          refine J.bind (fun o394 g394 => ?_)
          refine J.bd' (fun v394 S394 h394 => ?_)
          refine J.cV (q := (RX6, TX6, 26)) (ci := 5) (As := [.int v393]) (rest := []) (s2 := [.int v394]) X ⟨rfl, rfl⟩ (jmcw (fun A hm σ9 hs M => ct_X6_count l hm σ9 n M v393)) h394 (fun _ _ => cwV 1 X.1.2.2.2.2 (lw_V q3071 q3072 q3073 q174 q3074) rfl rfl rfl (by decide +kernel) ⟨(Nat.le_of_ble_eq_true rfl), (Nat.le_of_ble_eq_true rfl)⟩) g394 rfl rfl hl.1 rfl rfl (Nat.le_of_ble_eq_true rfl) dL_law_394 ?_
          refine J.istore (lv' := [(6, .int v394), (5, .int v382), (0, va_rf a0), (1, va_rf x1_23), (2, va_rf x2_23), (3, va_rf x3_23), (4, .int x4_23)]) X.1.1 X.1.2.1 dL_law_397 hl (by decide) (by first | rfl | simp [va_rf_cat, jcI, jcA, jcJ, jcD, jcF]) (fun ls hl => ?_)
          refine J.pu (fun _ _ _ _ k => W.rload_n X.1.1 X.1.2.1 dL_law_399 rfl (lv_at hl 4 rfl) k) ?_
          refine J.bind (fun o400 g400 => ?_)
          refine J.bind (fun v400 h400 => ?_)
          refine J.cV (q := (RX6, TX6, 26)) (ci := 5) (As := []) (rest := []) (s2 := [.int v400]) X ⟨rfl, rfl⟩ (jmcr (fun A hm σ9 hs M => ct_X6_thrown l hm σ9 n M)) (jrd_of h400) (fun _ _ => cwV 0 X.1.2.2.2.2 (lw_V q2809 q2810 q2811 q174 q2812) rfl rfl rfl (by decide +kernel) ⟨(Nat.le_of_ble_eq_true rfl), (Nat.le_of_ble_eq_true rfl)⟩) g400 rfl rfl hl.1 rfl rfl (Nat.le_of_ble_eq_true rfl) dL_law_400 ?_
          refine J.pu (fun _ _ _ _ k => lv_iload X.1.1 X.1.2.1 dL_law_403 (lv_at hl 1 rfl) k) ?_
          refine J.br (fun _ _ _ _ ka kb => lv_icmp_eq (tgt := 410) X.1.1 X.1.2.1 dL_law_405 (by decide) ka kb) (fun c405 => ?_) (fun c405 => ?_)
          · refine J.pu (fun _ _ _ _ k => lv_iload X.1.1 X.1.2.1 dL_law_410 (lv_at hl 1 rfl) k) ?_
            refine J.br (fun _ _ _ _ ka kb => lv_if_ne (tgt := 427) X.1.1 X.1.2.1 dL_law_412 (by decide) kb ka) (fun c412 => ?_) (fun c412 => ?_)
            · refine J.pu (fun _ _ _ _ k => W.rload_n X.1.1 X.1.2.1 dL_law_415 rfl (lv_at hl 5 rfl) k) ?_
              refine J.pu (fun _ _ _ _ k => lv_iconst (v := 0) X.1.1 X.1.2.1 dL_law_416 (by decide) k) ?_
              refine J.aJ' X dL_law_417 (fun v417 h417 => ?_)
              refine J.pu (fun _ _ _ _ k => lv_iload X.1.1 X.1.2.1 dL_law_418 (lv_at hl 0 rfl) k) ?_
              refine J.pu (fun _ _ _ _ k => lv_i2l (v := v394.toInt64) X.1.1 X.1.2.1 dL_law_420 rfl k) ?_
              refine J.pu (fun _ _ _ _ k => W.lcmp X.1.1 X.1.2.1 dL_law_421 k) ?_
              refine J.br (fun _ _ _ _ ka kb => lv_if_eq (tgt := 427) X.1.1 X.1.2.1 dL_law_422 (by decide) ka kb) (fun c422 => ?_) (fun c422 => ?_)
              · refine J.pu (fun _ _ _ _ k => lv_goto (tgt := 2202) X.1.1 X.1.2.1 dL_law_427 (by decide) k) ?_
                exact j2202 x4_23 S394 ls (lv_sub hl [2, 3, 4, 5, 6] rfl)
              · refine J.pu (fun _ _ _ _ k => lv_iconst (v := 0) X.1.1 X.1.2.1 dL_law_425 (by decide) k) ?_
                exact J.zret (vr := fun t : Int32 × jH => jrI t.1) (fin := Prod.snd) (t := t) X hr (by decide) (by rfl) (by rfl) dL_law_426
            · refine J.pu (fun _ _ _ _ k => lv_goto (tgt := 2202) X.1.1 X.1.2.1 dL_law_427 (by decide) k) ?_
              exact j2202 x4_23 S394 ls (lv_sub hl [2, 3, 4, 5, 6] rfl)
          · refine J.pu (fun _ _ _ _ k => lv_iconst (v := 0) X.1.1 X.1.2.1 dL_law_408 (by decide) k) ?_
            exact J.zret (vr := fun t : Int32 × jH => jrI t.1) (fin := Prod.snd) (t := t) X hr (by decide) (by rfl) (by rfl) dL_law_409
        refine J.ite (fun c40_7 => ?_) (fun c40_7 => ?_)
        · refine J.pu (fun _ _ _ _ k => lv_tableIn (tgt := 430) (off := 390) X.1.1 X.1.2.1 dL_law_40 (by rw [c40_7]; decide) (by rw [c40_7]; decide) (by rw [c40_7]; decide) (by decide) k) ?_
          refine J.pu (fun _ _ _ _ k => W.rload_n X.1.1 X.1.2.1 dL_law_430 rfl (lv_at hl 1 rfl) k) ?_
          refine J.pu (fun _ _ _ _ k => W.rload_n X.1.1 X.1.2.1 dL_law_431 rfl (lv_at hl 0 rfl) k) ?_
          refine J.pu (fun _ _ _ _ k => lv_iload X.1.1 X.1.2.1 dL_law_432 (lv_at hl 4 rfl) k) ?_
          refine J.pu (fun _ _ _ _ k => lv_iconst (v := 1) X.1.1 X.1.2.1 dL_law_434 (by decide) k) ?_
          refine J.pu (fun _ _ _ _ k => lv_iadd X.1.1 X.1.2.1 dL_law_435 k) ?_
          refine J.aI0 X dL_law_436 (fun v436 h436 => ?_)
          refine J.pu (fun _ _ _ _ k => W.rload_n X.1.1 X.1.2.1 dL_law_437 rfl (lv_at hl 3 rfl) k) ?_
          refine J.bd' (fun v438 S438 h438 => ?_)
          refine J.cSW (hh := [(0, 9, 12, 13)]) (As := [va_rf x1_23, .int v436, va_rf x3_23]) (rest := []) (s2 := [.int v438]) X ⟨rfl, rfl⟩ (ct_X0_account l hfl G n B23 x1_23 v436 x3_23) h438 (fun _ _ => vx_cwSW 3 X.1.2.2.2.2 (lw_SW q2406 q2407 q137 q2408) rfl rfl rfl (by decide +kernel) ⟨(Nat.le_of_ble_eq_true rfl), (Nat.le_of_ble_eq_true rfl)⟩) rfl hl.1 rfl rfl (Nat.le_of_ble_eq_true rfl) dL_law_438 ?_
          refine J.istore (lv' := [(5, .int v438), (0, va_rf a0), (1, va_rf x1_23), (2, va_rf x2_23), (3, va_rf x3_23), (4, .int x4_23)]) X.1.1 X.1.2.1 dL_law_441 hl (by decide) (by first | rfl | simp [va_rf_cat, jcI, jcA, jcJ, jcD, jcF]) (fun ls hl => ?_)
          refine J.pu (fun _ _ _ _ k => W.rload_n X.1.1 X.1.2.1 dL_law_443 rfl (lv_at hl 3 rfl) k) ?_
          refine J.pu (fun _ _ _ _ k => W.rload_n X.1.1 X.1.2.1 dL_law_444 rfl (lv_at hl 1 rfl) k) ?_
          refine J.pu (fun _ _ _ _ k => lv_iload X.1.1 X.1.2.1 dL_law_445 (lv_at hl 5 rfl) k) ?_
          refine J.pu (fun _ _ _ _ k => lv_iconst (v := 1) X.1.1 X.1.2.1 dL_law_447 (by decide) k) ?_
          refine J.pu (fun _ _ _ _ k => lv_iadd X.1.1 X.1.2.1 dL_law_448 k) ?_
          refine J.aI0 X dL_law_449 (fun v449 h449 => ?_)
          refine J.bind (fun o450 g450 => ?_)
          refine J.bd' (fun v450 S450 h450 => ?_)
          refine J.cV (q := (RX6, TX6, 26)) (ci := 5) (As := [.int v449]) (rest := []) (s2 := [.int v450]) X ⟨rfl, rfl⟩ (jmcw (fun A hm σ9 hs M => ct_X6_account l hm σ9 n M v449)) h450 (fun _ _ => cwV 1 X.1.2.2.2.2 (lw_V q3087 q3088 q3089 q174 q3090) rfl rfl rfl (by decide +kernel) ⟨(Nat.le_of_ble_eq_true rfl), (Nat.le_of_ble_eq_true rfl)⟩) g450 rfl rfl hl.1 rfl rfl (Nat.le_of_ble_eq_true rfl) dL_law_450 ?_
          refine J.istore (lv' := [(6, .int v450), (5, .int v438), (0, va_rf a0), (1, va_rf x1_23), (2, va_rf x2_23), (3, va_rf x3_23), (4, .int x4_23)]) X.1.1 X.1.2.1 dL_law_453 hl (by decide) (by first | rfl | simp [va_rf_cat, jcI, jcA, jcJ, jcD, jcF]) (fun ls hl => ?_)
          refine J.pu (fun _ _ _ _ k => W.rload_n X.1.1 X.1.2.1 dL_law_455 rfl (lv_at hl 4 rfl) k) ?_
          refine J.bind (fun o456 g456 => ?_)
          refine J.bind (fun v456 h456 => ?_)
          refine J.cV (q := (RX6, TX6, 26)) (ci := 5) (As := []) (rest := []) (s2 := [.int v456]) X ⟨rfl, rfl⟩ (jmcr (fun A hm σ9 hs M => ct_X6_thrown l hm σ9 n M)) (jrd_of h456) (fun _ _ => cwV 0 X.1.2.2.2.2 (lw_V q2809 q2810 q2811 q174 q2812) rfl rfl rfl (by decide +kernel) ⟨(Nat.le_of_ble_eq_true rfl), (Nat.le_of_ble_eq_true rfl)⟩) g456 rfl rfl hl.1 rfl rfl (Nat.le_of_ble_eq_true rfl) dL_law_456 ?_
          refine J.pu (fun _ _ _ _ k => lv_iload X.1.1 X.1.2.1 dL_law_459 (lv_at hl 1 rfl) k) ?_
          refine J.br (fun _ _ _ _ ka kb => lv_icmp_eq (tgt := 466) X.1.1 X.1.2.1 dL_law_461 (by decide) ka kb) (fun c461 => ?_) (fun c461 => ?_)
          · refine J.pu (fun _ _ _ _ k => lv_iload X.1.1 X.1.2.1 dL_law_466 (lv_at hl 1 rfl) k) ?_
            refine J.br (fun _ _ _ _ ka kb => lv_if_ne (tgt := 483) X.1.1 X.1.2.1 dL_law_468 (by decide) kb ka) (fun c468 => ?_) (fun c468 => ?_)
            · refine J.pu (fun _ _ _ _ k => W.rload_n X.1.1 X.1.2.1 dL_law_471 rfl (lv_at hl 5 rfl) k) ?_
              refine J.pu (fun _ _ _ _ k => lv_iconst (v := 0) X.1.1 X.1.2.1 dL_law_472 (by decide) k) ?_
              refine J.aJ' X dL_law_473 (fun v473 h473 => ?_)
              refine J.pu (fun _ _ _ _ k => lv_iload X.1.1 X.1.2.1 dL_law_474 (lv_at hl 0 rfl) k) ?_
              refine J.pu (fun _ _ _ _ k => lv_i2l (v := v450.toInt64) X.1.1 X.1.2.1 dL_law_476 rfl k) ?_
              refine J.pu (fun _ _ _ _ k => W.lcmp X.1.1 X.1.2.1 dL_law_477 k) ?_
              refine J.br (fun _ _ _ _ ka kb => lv_if_eq (tgt := 483) X.1.1 X.1.2.1 dL_law_478 (by decide) ka kb) (fun c478 => ?_) (fun c478 => ?_)
              · refine J.pu (fun _ _ _ _ k => lv_goto (tgt := 2202) X.1.1 X.1.2.1 dL_law_483 (by decide) k) ?_
                exact j2202 x4_23 S450 ls (lv_sub hl [2, 3, 4, 5, 6] rfl)
              · refine J.pu (fun _ _ _ _ k => lv_iconst (v := 0) X.1.1 X.1.2.1 dL_law_481 (by decide) k) ?_
                exact J.zret (vr := fun t : Int32 × jH => jrI t.1) (fin := Prod.snd) (t := t) X hr (by decide) (by rfl) (by rfl) dL_law_482
            · refine J.pu (fun _ _ _ _ k => lv_goto (tgt := 2202) X.1.1 X.1.2.1 dL_law_483 (by decide) k) ?_
              exact j2202 x4_23 S450 ls (lv_sub hl [2, 3, 4, 5, 6] rfl)
          · refine J.pu (fun _ _ _ _ k => lv_iconst (v := 0) X.1.1 X.1.2.1 dL_law_464 (by decide) k) ?_
            exact J.zret (vr := fun t : Int32 × jH => jrI t.1) (fin := Prod.snd) (t := t) X hr (by decide) (by rfl) (by rfl) dL_law_465
        refine J.ite (fun c40_8 => ?_) (fun c40_8 => ?_)
        · refine J.pu (fun _ _ _ _ k => lv_tableIn (tgt := 486) (off := 446) X.1.1 X.1.2.1 dL_law_40 (by rw [c40_8]; decide) (by rw [c40_8]; decide) (by rw [c40_8]; decide) (by decide) k) ?_
          refine J.pu (fun _ _ _ _ k => W.rload_n X.1.1 X.1.2.1 dL_law_486 rfl (lv_at hl 1 rfl) k) ?_
          refine J.pu (fun _ _ _ _ k => W.rload_n X.1.1 X.1.2.1 dL_law_487 rfl (lv_at hl 0 rfl) k) ?_
          refine J.pu (fun _ _ _ _ k => lv_iload X.1.1 X.1.2.1 dL_law_488 (lv_at hl 4 rfl) k) ?_
          refine J.pu (fun _ _ _ _ k => lv_iconst (v := 1) X.1.1 X.1.2.1 dL_law_490 (by decide) k) ?_
          refine J.pu (fun _ _ _ _ k => lv_iadd X.1.1 X.1.2.1 dL_law_491 k) ?_
          refine J.aI0 X dL_law_492 (fun v492 h492 => ?_)
          refine J.pu (fun _ _ _ _ k => W.rload_n X.1.1 X.1.2.1 dL_law_493 rfl (lv_at hl 0 rfl) k) ?_
          refine J.pu (fun _ _ _ _ k => lv_iload X.1.1 X.1.2.1 dL_law_494 (lv_at hl 4 rfl) k) ?_
          refine J.pu (fun _ _ _ _ k => lv_iconst (v := 2) X.1.1 X.1.2.1 dL_law_496 (by decide) k) ?_
          refine J.pu (fun _ _ _ _ k => lv_iadd X.1.1 X.1.2.1 dL_law_497 k) ?_
          refine J.aI0 X dL_law_498 (fun v498 h498 => ?_)
          refine J.pu (fun _ _ _ _ k => W.rload_n X.1.1 X.1.2.1 dL_law_499 rfl (lv_at hl 3 rfl) k) ?_
          refine J.bd' (fun v500 S500 h500 => ?_)
          refine J.cSW (hh := [(0, 10, 13, 22), (0, 10, 17, 13)]) (As := [va_rf x1_23, .int v492, .int v498, va_rf x3_23]) (rest := []) (s2 := [.int v500]) X ⟨rfl, rfl⟩ (ct_X0_cell l hfl G n B23 x1_23 v492 v498 x3_23) h500 (fun _ _ => vx_cwSW 4 X.1.2.2.2.2 (lw_SW q2417 q2418 q137 q2419) rfl rfl rfl (by decide +kernel) ⟨(Nat.le_of_ble_eq_true rfl), (Nat.le_of_ble_eq_true rfl)⟩) rfl hl.1 rfl rfl (Nat.le_of_ble_eq_true rfl) dL_law_500 ?_
          refine J.istore (lv' := [(5, .int v500), (0, va_rf a0), (1, va_rf x1_23), (2, va_rf x2_23), (3, va_rf x3_23), (4, .int x4_23)]) X.1.1 X.1.2.1 dL_law_503 hl (by decide) (by first | rfl | simp [va_rf_cat, jcI, jcA, jcJ, jcD, jcF]) (fun ls hl => ?_)
          refine J.pu (fun _ _ _ _ k => W.rload_n X.1.1 X.1.2.1 dL_law_505 rfl (lv_at hl 3 rfl) k) ?_
          refine J.pu (fun _ _ _ _ k => W.rload_n X.1.1 X.1.2.1 dL_law_506 rfl (lv_at hl 1 rfl) k) ?_
          refine J.pu (fun _ _ _ _ k => lv_iload X.1.1 X.1.2.1 dL_law_507 (lv_at hl 5 rfl) k) ?_
          refine J.pu (fun _ _ _ _ k => lv_iconst (v := 1) X.1.1 X.1.2.1 dL_law_509 (by decide) k) ?_
          refine J.pu (fun _ _ _ _ k => lv_iadd X.1.1 X.1.2.1 dL_law_510 k) ?_
          refine J.aI0 X dL_law_511 (fun v511 h511 => ?_)
          refine J.pu (fun _ _ _ _ k => W.rload_n X.1.1 X.1.2.1 dL_law_512 rfl (lv_at hl 1 rfl) k) ?_
          refine J.pu (fun _ _ _ _ k => lv_iload X.1.1 X.1.2.1 dL_law_513 (lv_at hl 5 rfl) k) ?_
          refine J.pu (fun _ _ _ _ k => lv_iconst (v := 2) X.1.1 X.1.2.1 dL_law_515 (by decide) k) ?_
          refine J.pu (fun _ _ _ _ k => lv_iadd X.1.1 X.1.2.1 dL_law_516 k) ?_
          refine J.aI0 X dL_law_517 (fun v517 h517 => ?_)
          refine J.bind (fun o518 g518 => ?_)
          refine J.bd' (fun v518 S518 h518 => ?_)
          refine J.cV (q := (RX6, TX6, 26)) (ci := 5) (As := [.int v511, .int v517]) (rest := []) (s2 := [.int v518]) X ⟨rfl, rfl⟩ (jmcw (fun A hm σ9 hs M => ct_X6_cell l hm σ9 n M v511 v517)) h518 (fun _ _ => cwV 2 X.1.2.2.2.2 (lw_V q3091 q3092 q3093 q174 q3094) rfl rfl rfl (by decide +kernel) ⟨(Nat.le_of_ble_eq_true rfl), (Nat.le_of_ble_eq_true rfl)⟩) g518 rfl rfl hl.1 rfl rfl (Nat.le_of_ble_eq_true rfl) dL_law_518 ?_
          refine J.istore (lv' := [(6, .int v518), (5, .int v500), (0, va_rf a0), (1, va_rf x1_23), (2, va_rf x2_23), (3, va_rf x3_23), (4, .int x4_23)]) X.1.1 X.1.2.1 dL_law_521 hl (by decide) (by first | rfl | simp [va_rf_cat, jcI, jcA, jcJ, jcD, jcF]) (fun ls hl => ?_)
          refine J.pu (fun _ _ _ _ k => W.rload_n X.1.1 X.1.2.1 dL_law_523 rfl (lv_at hl 4 rfl) k) ?_
          refine J.bind (fun o524 g524 => ?_)
          refine J.bind (fun v524 h524 => ?_)
          refine J.cV (q := (RX6, TX6, 26)) (ci := 5) (As := []) (rest := []) (s2 := [.int v524]) X ⟨rfl, rfl⟩ (jmcr (fun A hm σ9 hs M => ct_X6_thrown l hm σ9 n M)) (jrd_of h524) (fun _ _ => cwV 0 X.1.2.2.2.2 (lw_V q2809 q2810 q2811 q174 q2812) rfl rfl rfl (by decide +kernel) ⟨(Nat.le_of_ble_eq_true rfl), (Nat.le_of_ble_eq_true rfl)⟩) g524 rfl rfl hl.1 rfl rfl (Nat.le_of_ble_eq_true rfl) dL_law_524 ?_
          refine J.pu (fun _ _ _ _ k => lv_iload X.1.1 X.1.2.1 dL_law_527 (lv_at hl 1 rfl) k) ?_
          refine J.br (fun _ _ _ _ ka kb => lv_icmp_eq (tgt := 534) X.1.1 X.1.2.1 dL_law_529 (by decide) ka kb) (fun c529 => ?_) (fun c529 => ?_)
          · refine J.pu (fun _ _ _ _ k => lv_iload X.1.1 X.1.2.1 dL_law_534 (lv_at hl 1 rfl) k) ?_
            refine J.br (fun _ _ _ _ ka kb => lv_if_ne (tgt := 551) X.1.1 X.1.2.1 dL_law_536 (by decide) kb ka) (fun c536 => ?_) (fun c536 => ?_)
            · refine J.pu (fun _ _ _ _ k => W.rload_n X.1.1 X.1.2.1 dL_law_539 rfl (lv_at hl 5 rfl) k) ?_
              refine J.pu (fun _ _ _ _ k => lv_iconst (v := 0) X.1.1 X.1.2.1 dL_law_540 (by decide) k) ?_
              refine J.aJ' X dL_law_541 (fun v541 h541 => ?_)
              refine J.pu (fun _ _ _ _ k => lv_iload X.1.1 X.1.2.1 dL_law_542 (lv_at hl 0 rfl) k) ?_
              refine J.pu (fun _ _ _ _ k => lv_i2l (v := v518.toInt64) X.1.1 X.1.2.1 dL_law_544 rfl k) ?_
              refine J.pu (fun _ _ _ _ k => W.lcmp X.1.1 X.1.2.1 dL_law_545 k) ?_
              refine J.br (fun _ _ _ _ ka kb => lv_if_eq (tgt := 551) X.1.1 X.1.2.1 dL_law_546 (by decide) ka kb) (fun c546 => ?_) (fun c546 => ?_)
              · refine J.pu (fun _ _ _ _ k => lv_goto (tgt := 2202) X.1.1 X.1.2.1 dL_law_551 (by decide) k) ?_
                exact j2202 x4_23 S518 ls (lv_sub hl [2, 3, 4, 5, 6] rfl)
              · refine J.pu (fun _ _ _ _ k => lv_iconst (v := 0) X.1.1 X.1.2.1 dL_law_549 (by decide) k) ?_
                exact J.zret (vr := fun t : Int32 × jH => jrI t.1) (fin := Prod.snd) (t := t) X hr (by decide) (by rfl) (by rfl) dL_law_550
            · refine J.pu (fun _ _ _ _ k => lv_goto (tgt := 2202) X.1.1 X.1.2.1 dL_law_551 (by decide) k) ?_
              exact j2202 x4_23 S518 ls (lv_sub hl [2, 3, 4, 5, 6] rfl)
          · refine J.pu (fun _ _ _ _ k => lv_iconst (v := 0) X.1.1 X.1.2.1 dL_law_532 (by decide) k) ?_
            exact J.zret (vr := fun t : Int32 × jH => jrI t.1) (fin := Prod.snd) (t := t) X hr (by decide) (by rfl) (by rfl) dL_law_533
        refine J.ite (fun c40_9 => ?_) (fun c40_9 => ?_)
        · refine J.pu (fun _ _ _ _ k => lv_tableIn (tgt := 554) (off := 514) X.1.1 X.1.2.1 dL_law_40 (by rw [c40_9]; decide) (by rw [c40_9]; decide) (by rw [c40_9]; decide) (by decide) k) ?_
          refine J.pu (fun _ _ _ _ k => W.rload_n X.1.1 X.1.2.1 dL_law_554 rfl (lv_at hl 1 rfl) k) ?_
          refine J.pu (fun _ _ _ _ k => W.rload_n X.1.1 X.1.2.1 dL_law_555 rfl (lv_at hl 0 rfl) k) ?_
          refine J.pu (fun _ _ _ _ k => lv_iload X.1.1 X.1.2.1 dL_law_556 (lv_at hl 4 rfl) k) ?_
          refine J.pu (fun _ _ _ _ k => lv_iconst (v := 1) X.1.1 X.1.2.1 dL_law_558 (by decide) k) ?_
          refine J.pu (fun _ _ _ _ k => lv_iadd X.1.1 X.1.2.1 dL_law_559 k) ?_
          refine J.aI0 X dL_law_560 (fun v560 h560 => ?_)
          refine J.pu (fun _ _ _ _ k => W.rload_n X.1.1 X.1.2.1 dL_law_561 rfl (lv_at hl 0 rfl) k) ?_
          refine J.pu (fun _ _ _ _ k => lv_iload X.1.1 X.1.2.1 dL_law_562 (lv_at hl 4 rfl) k) ?_
          refine J.pu (fun _ _ _ _ k => lv_iconst (v := 2) X.1.1 X.1.2.1 dL_law_564 (by decide) k) ?_
          refine J.pu (fun _ _ _ _ k => lv_iadd X.1.1 X.1.2.1 dL_law_565 k) ?_
          refine J.aI0 X dL_law_566 (fun v566 h566 => ?_)
          refine J.pu (fun _ _ _ _ k => W.rload_n X.1.1 X.1.2.1 dL_law_567 rfl (lv_at hl 3 rfl) k) ?_
          refine J.bd' (fun v568 S568 h568 => ?_)
          refine J.cSW (hh := [(0, 10, 13, 22), (0, 10, 17, 13)]) (As := [va_rf x1_23, .int v560, .int v566, va_rf x3_23]) (rest := []) (s2 := [.int v568]) X ⟨rfl, rfl⟩ (ct_X0_parcel l hfl G n B23 x1_23 v560 v566 x3_23) h568 (fun _ _ => vx_cwSW 4 X.1.2.2.2.2 (lw_SW q2447 q2448 q137 q2449) rfl rfl rfl (by decide +kernel) ⟨(Nat.le_of_ble_eq_true rfl), (Nat.le_of_ble_eq_true rfl)⟩) rfl hl.1 rfl rfl (Nat.le_of_ble_eq_true rfl) dL_law_568 ?_
          refine J.istore (lv' := [(5, .int v568), (0, va_rf a0), (1, va_rf x1_23), (2, va_rf x2_23), (3, va_rf x3_23), (4, .int x4_23)]) X.1.1 X.1.2.1 dL_law_571 hl (by decide) (by first | rfl | simp [va_rf_cat, jcI, jcA, jcJ, jcD, jcF]) (fun ls hl => ?_)
          refine J.pu (fun _ _ _ _ k => W.rload_n X.1.1 X.1.2.1 dL_law_573 rfl (lv_at hl 3 rfl) k) ?_
          refine J.pu (fun _ _ _ _ k => W.rload_n X.1.1 X.1.2.1 dL_law_574 rfl (lv_at hl 1 rfl) k) ?_
          refine J.pu (fun _ _ _ _ k => lv_iload X.1.1 X.1.2.1 dL_law_575 (lv_at hl 5 rfl) k) ?_
          refine J.pu (fun _ _ _ _ k => lv_iconst (v := 1) X.1.1 X.1.2.1 dL_law_577 (by decide) k) ?_
          refine J.pu (fun _ _ _ _ k => lv_iadd X.1.1 X.1.2.1 dL_law_578 k) ?_
          refine J.aI0 X dL_law_579 (fun v579 h579 => ?_)
          refine J.pu (fun _ _ _ _ k => W.rload_n X.1.1 X.1.2.1 dL_law_580 rfl (lv_at hl 1 rfl) k) ?_
          refine J.pu (fun _ _ _ _ k => lv_iload X.1.1 X.1.2.1 dL_law_581 (lv_at hl 5 rfl) k) ?_
          refine J.pu (fun _ _ _ _ k => lv_iconst (v := 2) X.1.1 X.1.2.1 dL_law_583 (by decide) k) ?_
          refine J.pu (fun _ _ _ _ k => lv_iadd X.1.1 X.1.2.1 dL_law_584 k) ?_
          refine J.aI0 X dL_law_585 (fun v585 h585 => ?_)
          refine J.bind (fun o586 g586 => ?_)
          refine J.bd' (fun v586 S586 h586 => ?_)
          refine J.cV (q := (RX6, TX6, 26)) (ci := 5) (As := [.int v579, .int v585]) (rest := []) (s2 := [.int v586]) X ⟨rfl, rfl⟩ (jmcw (fun A hm σ9 hs M => ct_X6_parcel l hm σ9 n M v579 v585)) h586 (fun _ _ => cwV 2 X.1.2.2.2.2 (lw_V q3103 q3104 q3105 q174 q3106) rfl rfl rfl (by decide +kernel) ⟨(Nat.le_of_ble_eq_true rfl), (Nat.le_of_ble_eq_true rfl)⟩) g586 rfl rfl hl.1 rfl rfl (Nat.le_of_ble_eq_true rfl) dL_law_586 ?_
          refine J.istore (lv' := [(6, .int v586), (5, .int v568), (0, va_rf a0), (1, va_rf x1_23), (2, va_rf x2_23), (3, va_rf x3_23), (4, .int x4_23)]) X.1.1 X.1.2.1 dL_law_589 hl (by decide) (by first | rfl | simp [va_rf_cat, jcI, jcA, jcJ, jcD, jcF]) (fun ls hl => ?_)
          refine J.pu (fun _ _ _ _ k => W.rload_n X.1.1 X.1.2.1 dL_law_591 rfl (lv_at hl 4 rfl) k) ?_
          refine J.bind (fun o592 g592 => ?_)
          refine J.bind (fun v592 h592 => ?_)
          refine J.cV (q := (RX6, TX6, 26)) (ci := 5) (As := []) (rest := []) (s2 := [.int v592]) X ⟨rfl, rfl⟩ (jmcr (fun A hm σ9 hs M => ct_X6_thrown l hm σ9 n M)) (jrd_of h592) (fun _ _ => cwV 0 X.1.2.2.2.2 (lw_V q2809 q2810 q2811 q174 q2812) rfl rfl rfl (by decide +kernel) ⟨(Nat.le_of_ble_eq_true rfl), (Nat.le_of_ble_eq_true rfl)⟩) g592 rfl rfl hl.1 rfl rfl (Nat.le_of_ble_eq_true rfl) dL_law_592 ?_
          refine J.pu (fun _ _ _ _ k => lv_iload X.1.1 X.1.2.1 dL_law_595 (lv_at hl 1 rfl) k) ?_
          refine J.br (fun _ _ _ _ ka kb => lv_icmp_eq (tgt := 602) X.1.1 X.1.2.1 dL_law_597 (by decide) ka kb) (fun c597 => ?_) (fun c597 => ?_)
          · refine J.pu (fun _ _ _ _ k => lv_iload X.1.1 X.1.2.1 dL_law_602 (lv_at hl 1 rfl) k) ?_
            refine J.br (fun _ _ _ _ ka kb => lv_if_ne (tgt := 619) X.1.1 X.1.2.1 dL_law_604 (by decide) kb ka) (fun c604 => ?_) (fun c604 => ?_)
            · refine J.pu (fun _ _ _ _ k => W.rload_n X.1.1 X.1.2.1 dL_law_607 rfl (lv_at hl 5 rfl) k) ?_
              refine J.pu (fun _ _ _ _ k => lv_iconst (v := 0) X.1.1 X.1.2.1 dL_law_608 (by decide) k) ?_
              refine J.aJ' X dL_law_609 (fun v609 h609 => ?_)
              refine J.pu (fun _ _ _ _ k => lv_iload X.1.1 X.1.2.1 dL_law_610 (lv_at hl 0 rfl) k) ?_
              refine J.pu (fun _ _ _ _ k => lv_i2l (v := v586.toInt64) X.1.1 X.1.2.1 dL_law_612 rfl k) ?_
              refine J.pu (fun _ _ _ _ k => W.lcmp X.1.1 X.1.2.1 dL_law_613 k) ?_
              refine J.br (fun _ _ _ _ ka kb => lv_if_eq (tgt := 619) X.1.1 X.1.2.1 dL_law_614 (by decide) ka kb) (fun c614 => ?_) (fun c614 => ?_)
              · refine J.pu (fun _ _ _ _ k => lv_goto (tgt := 2202) X.1.1 X.1.2.1 dL_law_619 (by decide) k) ?_
                exact j2202 x4_23 S586 ls (lv_sub hl [2, 3, 4, 5, 6] rfl)
              · refine J.pu (fun _ _ _ _ k => lv_iconst (v := 0) X.1.1 X.1.2.1 dL_law_617 (by decide) k) ?_
                exact J.zret (vr := fun t : Int32 × jH => jrI t.1) (fin := Prod.snd) (t := t) X hr (by decide) (by rfl) (by rfl) dL_law_618
            · refine J.pu (fun _ _ _ _ k => lv_goto (tgt := 2202) X.1.1 X.1.2.1 dL_law_619 (by decide) k) ?_
              exact j2202 x4_23 S586 ls (lv_sub hl [2, 3, 4, 5, 6] rfl)
          · refine J.pu (fun _ _ _ _ k => lv_iconst (v := 0) X.1.1 X.1.2.1 dL_law_600 (by decide) k) ?_
            exact J.zret (vr := fun t : Int32 × jH => jrI t.1) (fin := Prod.snd) (t := t) X hr (by decide) (by rfl) (by rfl) dL_law_601
        refine J.ite (fun c40_10 => ?_) (fun c40_10 => ?_)
        · refine J.pu (fun _ _ _ _ k => lv_tableIn (tgt := 622) (off := 582) X.1.1 X.1.2.1 dL_law_40 (by rw [c40_10]; decide) (by rw [c40_10]; decide) (by rw [c40_10]; decide) (by decide) k) ?_
          refine J.pu (fun _ _ _ _ k => W.rload_n X.1.1 X.1.2.1 dL_law_622 rfl (lv_at hl 1 rfl) k) ?_
          refine J.pu (fun _ _ _ _ k => W.rload_n X.1.1 X.1.2.1 dL_law_623 rfl (lv_at hl 0 rfl) k) ?_
          refine J.pu (fun _ _ _ _ k => lv_iload X.1.1 X.1.2.1 dL_law_624 (lv_at hl 4 rfl) k) ?_
          refine J.pu (fun _ _ _ _ k => lv_iconst (v := 1) X.1.1 X.1.2.1 dL_law_626 (by decide) k) ?_
          refine J.pu (fun _ _ _ _ k => lv_iadd X.1.1 X.1.2.1 dL_law_627 k) ?_
          refine J.aI0 X dL_law_628 (fun v628 h628 => ?_)
          refine J.pu (fun _ _ _ _ k => W.rload_n X.1.1 X.1.2.1 dL_law_629 rfl (lv_at hl 0 rfl) k) ?_
          refine J.pu (fun _ _ _ _ k => lv_iload X.1.1 X.1.2.1 dL_law_630 (lv_at hl 4 rfl) k) ?_
          refine J.pu (fun _ _ _ _ k => lv_iconst (v := 2) X.1.1 X.1.2.1 dL_law_632 (by decide) k) ?_
          refine J.pu (fun _ _ _ _ k => lv_iadd X.1.1 X.1.2.1 dL_law_633 k) ?_
          refine J.aI0 X dL_law_634 (fun v634 h634 => ?_)
          refine J.pu (fun _ _ _ _ k => W.rload_n X.1.1 X.1.2.1 dL_law_635 rfl (lv_at hl 3 rfl) k) ?_
          refine J.bd' (fun v636 S636 h636 => ?_)
          refine J.cSW (hh := [(0, 10, 13, 22), (0, 10, 17, 13)]) (As := [va_rf x1_23, .int v628, .int v634, va_rf x3_23]) (rest := []) (s2 := [.int v636]) X ⟨rfl, rfl⟩ (ct_X0_chute l hfl G n B23 x1_23 v628 v634 x3_23) h636 (fun _ _ => vx_cwSW 4 X.1.2.2.2.2 (lw_SW q2458 q2459 q137 q2460) rfl rfl rfl (by decide +kernel) ⟨(Nat.le_of_ble_eq_true rfl), (Nat.le_of_ble_eq_true rfl)⟩) rfl hl.1 rfl rfl (Nat.le_of_ble_eq_true rfl) dL_law_636 ?_
          refine J.istore (lv' := [(5, .int v636), (0, va_rf a0), (1, va_rf x1_23), (2, va_rf x2_23), (3, va_rf x3_23), (4, .int x4_23)]) X.1.1 X.1.2.1 dL_law_639 hl (by decide) (by first | rfl | simp [va_rf_cat, jcI, jcA, jcJ, jcD, jcF]) (fun ls hl => ?_)
          refine J.pu (fun _ _ _ _ k => W.rload_n X.1.1 X.1.2.1 dL_law_641 rfl (lv_at hl 3 rfl) k) ?_
          refine J.pu (fun _ _ _ _ k => W.rload_n X.1.1 X.1.2.1 dL_law_642 rfl (lv_at hl 1 rfl) k) ?_
          refine J.pu (fun _ _ _ _ k => lv_iload X.1.1 X.1.2.1 dL_law_643 (lv_at hl 5 rfl) k) ?_
          refine J.pu (fun _ _ _ _ k => lv_iconst (v := 1) X.1.1 X.1.2.1 dL_law_645 (by decide) k) ?_
          refine J.pu (fun _ _ _ _ k => lv_iadd X.1.1 X.1.2.1 dL_law_646 k) ?_
          refine J.aI0 X dL_law_647 (fun v647 h647 => ?_)
          refine J.pu (fun _ _ _ _ k => W.rload_n X.1.1 X.1.2.1 dL_law_648 rfl (lv_at hl 1 rfl) k) ?_
          refine J.pu (fun _ _ _ _ k => lv_iload X.1.1 X.1.2.1 dL_law_649 (lv_at hl 5 rfl) k) ?_
          refine J.pu (fun _ _ _ _ k => lv_iconst (v := 2) X.1.1 X.1.2.1 dL_law_651 (by decide) k) ?_
          refine J.pu (fun _ _ _ _ k => lv_iadd X.1.1 X.1.2.1 dL_law_652 k) ?_
          refine J.aI0 X dL_law_653 (fun v653 h653 => ?_)
          refine J.bind (fun o654 g654 => ?_)
          refine J.bd' (fun v654 S654 h654 => ?_)
          refine J.cV (q := (RX6, TX6, 26)) (ci := 5) (As := [.int v647, .int v653]) (rest := []) (s2 := [.int v654]) X ⟨rfl, rfl⟩ (jmcw (fun A hm σ9 hs M => ct_X6_chute l hm σ9 n M v647 v653)) h654 (fun _ _ => cwV 2 X.1.2.2.2.2 (lw_V q3111 q3112 q3113 q174 q3114) rfl rfl rfl (by decide +kernel) ⟨(Nat.le_of_ble_eq_true rfl), (Nat.le_of_ble_eq_true rfl)⟩) g654 rfl rfl hl.1 rfl rfl (Nat.le_of_ble_eq_true rfl) dL_law_654 ?_
          refine J.istore (lv' := [(6, .int v654), (5, .int v636), (0, va_rf a0), (1, va_rf x1_23), (2, va_rf x2_23), (3, va_rf x3_23), (4, .int x4_23)]) X.1.1 X.1.2.1 dL_law_657 hl (by decide) (by first | rfl | simp [va_rf_cat, jcI, jcA, jcJ, jcD, jcF]) (fun ls hl => ?_)
          refine J.pu (fun _ _ _ _ k => W.rload_n X.1.1 X.1.2.1 dL_law_659 rfl (lv_at hl 4 rfl) k) ?_
          refine J.bind (fun o660 g660 => ?_)
          refine J.bind (fun v660 h660 => ?_)
          refine J.cV (q := (RX6, TX6, 26)) (ci := 5) (As := []) (rest := []) (s2 := [.int v660]) X ⟨rfl, rfl⟩ (jmcr (fun A hm σ9 hs M => ct_X6_thrown l hm σ9 n M)) (jrd_of h660) (fun _ _ => cwV 0 X.1.2.2.2.2 (lw_V q2809 q2810 q2811 q174 q2812) rfl rfl rfl (by decide +kernel) ⟨(Nat.le_of_ble_eq_true rfl), (Nat.le_of_ble_eq_true rfl)⟩) g660 rfl rfl hl.1 rfl rfl (Nat.le_of_ble_eq_true rfl) dL_law_660 ?_
          refine J.pu (fun _ _ _ _ k => lv_iload X.1.1 X.1.2.1 dL_law_663 (lv_at hl 1 rfl) k) ?_
          refine J.br (fun _ _ _ _ ka kb => lv_icmp_eq (tgt := 670) X.1.1 X.1.2.1 dL_law_665 (by decide) ka kb) (fun c665 => ?_) (fun c665 => ?_)
          · refine J.pu (fun _ _ _ _ k => lv_iload X.1.1 X.1.2.1 dL_law_670 (lv_at hl 1 rfl) k) ?_
            refine J.br (fun _ _ _ _ ka kb => lv_if_ne (tgt := 687) X.1.1 X.1.2.1 dL_law_672 (by decide) kb ka) (fun c672 => ?_) (fun c672 => ?_)
            · refine J.pu (fun _ _ _ _ k => W.rload_n X.1.1 X.1.2.1 dL_law_675 rfl (lv_at hl 5 rfl) k) ?_
              refine J.pu (fun _ _ _ _ k => lv_iconst (v := 0) X.1.1 X.1.2.1 dL_law_676 (by decide) k) ?_
              refine J.aJ' X dL_law_677 (fun v677 h677 => ?_)
              refine J.pu (fun _ _ _ _ k => lv_iload X.1.1 X.1.2.1 dL_law_678 (lv_at hl 0 rfl) k) ?_
              refine J.pu (fun _ _ _ _ k => lv_i2l (v := v654.toInt64) X.1.1 X.1.2.1 dL_law_680 rfl k) ?_
              refine J.pu (fun _ _ _ _ k => W.lcmp X.1.1 X.1.2.1 dL_law_681 k) ?_
              refine J.br (fun _ _ _ _ ka kb => lv_if_eq (tgt := 687) X.1.1 X.1.2.1 dL_law_682 (by decide) ka kb) (fun c682 => ?_) (fun c682 => ?_)
              · refine J.pu (fun _ _ _ _ k => lv_goto (tgt := 2202) X.1.1 X.1.2.1 dL_law_687 (by decide) k) ?_
                exact j2202 x4_23 S654 ls (lv_sub hl [2, 3, 4, 5, 6] rfl)
              · refine J.pu (fun _ _ _ _ k => lv_iconst (v := 0) X.1.1 X.1.2.1 dL_law_685 (by decide) k) ?_
                exact J.zret (vr := fun t : Int32 × jH => jrI t.1) (fin := Prod.snd) (t := t) X hr (by decide) (by rfl) (by rfl) dL_law_686
            · refine J.pu (fun _ _ _ _ k => lv_goto (tgt := 2202) X.1.1 X.1.2.1 dL_law_687 (by decide) k) ?_
              exact j2202 x4_23 S654 ls (lv_sub hl [2, 3, 4, 5, 6] rfl)
          · refine J.pu (fun _ _ _ _ k => lv_iconst (v := 0) X.1.1 X.1.2.1 dL_law_668 (by decide) k) ?_
            exact J.zret (vr := fun t : Int32 × jH => jrI t.1) (fin := Prod.snd) (t := t) X hr (by decide) (by rfl) (by rfl) dL_law_669
        refine J.ite (fun c40_11 => ?_) (fun c40_11 => ?_)
        · refine J.pu (fun _ _ _ _ k => lv_tableIn (tgt := 690) (off := 650) X.1.1 X.1.2.1 dL_law_40 (by rw [c40_11]; decide) (by rw [c40_11]; decide) (by rw [c40_11]; decide) (by decide) k) ?_
          refine J.pu (fun _ _ _ _ k => W.rload_n X.1.1 X.1.2.1 dL_law_690 rfl (lv_at hl 1 rfl) k) ?_
          refine J.pu (fun _ _ _ _ k => W.rload_n X.1.1 X.1.2.1 dL_law_691 rfl (lv_at hl 0 rfl) k) ?_
          refine J.pu (fun _ _ _ _ k => lv_iload X.1.1 X.1.2.1 dL_law_692 (lv_at hl 4 rfl) k) ?_
          refine J.pu (fun _ _ _ _ k => lv_iconst (v := 1) X.1.1 X.1.2.1 dL_law_694 (by decide) k) ?_
          refine J.pu (fun _ _ _ _ k => lv_iadd X.1.1 X.1.2.1 dL_law_695 k) ?_
          refine J.aI0 X dL_law_696 (fun v696 h696 => ?_)
          refine J.pu (fun _ _ _ _ k => W.rload_n X.1.1 X.1.2.1 dL_law_697 rfl (lv_at hl 0 rfl) k) ?_
          refine J.pu (fun _ _ _ _ k => lv_iload X.1.1 X.1.2.1 dL_law_698 (lv_at hl 4 rfl) k) ?_
          refine J.pu (fun _ _ _ _ k => lv_iconst (v := 2) X.1.1 X.1.2.1 dL_law_700 (by decide) k) ?_
          refine J.pu (fun _ _ _ _ k => lv_iadd X.1.1 X.1.2.1 dL_law_701 k) ?_
          refine J.aI0 X dL_law_702 (fun v702 h702 => ?_)
          refine J.pu (fun _ _ _ _ k => W.rload_n X.1.1 X.1.2.1 dL_law_703 rfl (lv_at hl 3 rfl) k) ?_
          refine J.bd' (fun v704 S704 h704 => ?_)
          refine J.cSW (hh := [(0, 10, 13, 22)]) (As := [va_rf x1_23, .int v696, .int v702, va_rf x3_23]) (rest := []) (s2 := [.int v704]) X ⟨rfl, rfl⟩ (ct_X0_held l hfl G n B23 x1_23 v696 v702 x3_23) h704 (fun _ _ => vx_cwSW 4 X.1.2.2.2.2 (lw_SW q2485 q2486 q137 q2487) rfl rfl rfl (by decide +kernel) ⟨(Nat.le_of_ble_eq_true rfl), (Nat.le_of_ble_eq_true rfl)⟩) rfl hl.1 rfl rfl (Nat.le_of_ble_eq_true rfl) dL_law_704 ?_
          refine J.istore (lv' := [(5, .int v704), (0, va_rf a0), (1, va_rf x1_23), (2, va_rf x2_23), (3, va_rf x3_23), (4, .int x4_23)]) X.1.1 X.1.2.1 dL_law_707 hl (by decide) (by first | rfl | simp [va_rf_cat, jcI, jcA, jcJ, jcD, jcF]) (fun ls hl => ?_)
          refine J.pu (fun _ _ _ _ k => W.rload_n X.1.1 X.1.2.1 dL_law_709 rfl (lv_at hl 3 rfl) k) ?_
          refine J.pu (fun _ _ _ _ k => W.rload_n X.1.1 X.1.2.1 dL_law_710 rfl (lv_at hl 1 rfl) k) ?_
          refine J.pu (fun _ _ _ _ k => lv_iload X.1.1 X.1.2.1 dL_law_711 (lv_at hl 5 rfl) k) ?_
          refine J.pu (fun _ _ _ _ k => lv_iconst (v := 1) X.1.1 X.1.2.1 dL_law_713 (by decide) k) ?_
          refine J.pu (fun _ _ _ _ k => lv_iadd X.1.1 X.1.2.1 dL_law_714 k) ?_
          refine J.aI0 X dL_law_715 (fun v715 h715 => ?_)
          refine J.pu (fun _ _ _ _ k => W.rload_n X.1.1 X.1.2.1 dL_law_716 rfl (lv_at hl 1 rfl) k) ?_
          refine J.pu (fun _ _ _ _ k => lv_iload X.1.1 X.1.2.1 dL_law_717 (lv_at hl 5 rfl) k) ?_
          refine J.pu (fun _ _ _ _ k => lv_iconst (v := 2) X.1.1 X.1.2.1 dL_law_719 (by decide) k) ?_
          refine J.pu (fun _ _ _ _ k => lv_iadd X.1.1 X.1.2.1 dL_law_720 k) ?_
          refine J.aI0 X dL_law_721 (fun v721 h721 => ?_)
          refine J.bind (fun o722 g722 => ?_)
          refine J.bd' (fun v722 S722 h722 => ?_)
          refine J.cV (q := (RX6, TX6, 26)) (ci := 5) (As := [.int v715, .int v721]) (rest := []) (s2 := [.int v722]) X ⟨rfl, rfl⟩ (jmcw (fun A hm σ9 hs M => ct_X6_held l hm σ9 n M v715 v721)) h722 (fun _ _ => cwV 2 X.1.2.2.2.2 (lw_V q3127 q3128 q3129 q174 q3130) rfl rfl rfl (by decide +kernel) ⟨(Nat.le_of_ble_eq_true rfl), (Nat.le_of_ble_eq_true rfl)⟩) g722 rfl rfl hl.1 rfl rfl (Nat.le_of_ble_eq_true rfl) dL_law_722 ?_
          refine J.istore (lv' := [(6, .int v722), (5, .int v704), (0, va_rf a0), (1, va_rf x1_23), (2, va_rf x2_23), (3, va_rf x3_23), (4, .int x4_23)]) X.1.1 X.1.2.1 dL_law_725 hl (by decide) (by first | rfl | simp [va_rf_cat, jcI, jcA, jcJ, jcD, jcF]) (fun ls hl => ?_)
          refine J.pu (fun _ _ _ _ k => W.rload_n X.1.1 X.1.2.1 dL_law_727 rfl (lv_at hl 4 rfl) k) ?_
          refine J.bind (fun o728 g728 => ?_)
          refine J.bind (fun v728 h728 => ?_)
          refine J.cV (q := (RX6, TX6, 26)) (ci := 5) (As := []) (rest := []) (s2 := [.int v728]) X ⟨rfl, rfl⟩ (jmcr (fun A hm σ9 hs M => ct_X6_thrown l hm σ9 n M)) (jrd_of h728) (fun _ _ => cwV 0 X.1.2.2.2.2 (lw_V q2809 q2810 q2811 q174 q2812) rfl rfl rfl (by decide +kernel) ⟨(Nat.le_of_ble_eq_true rfl), (Nat.le_of_ble_eq_true rfl)⟩) g728 rfl rfl hl.1 rfl rfl (Nat.le_of_ble_eq_true rfl) dL_law_728 ?_
          refine J.pu (fun _ _ _ _ k => lv_iload X.1.1 X.1.2.1 dL_law_731 (lv_at hl 1 rfl) k) ?_
          refine J.br (fun _ _ _ _ ka kb => lv_icmp_eq (tgt := 738) X.1.1 X.1.2.1 dL_law_733 (by decide) ka kb) (fun c733 => ?_) (fun c733 => ?_)
          · refine J.pu (fun _ _ _ _ k => lv_iload X.1.1 X.1.2.1 dL_law_738 (lv_at hl 1 rfl) k) ?_
            refine J.br (fun _ _ _ _ ka kb => lv_if_ne (tgt := 755) X.1.1 X.1.2.1 dL_law_740 (by decide) kb ka) (fun c740 => ?_) (fun c740 => ?_)
            · refine J.pu (fun _ _ _ _ k => W.rload_n X.1.1 X.1.2.1 dL_law_743 rfl (lv_at hl 5 rfl) k) ?_
              refine J.pu (fun _ _ _ _ k => lv_iconst (v := 0) X.1.1 X.1.2.1 dL_law_744 (by decide) k) ?_
              refine J.aJ' X dL_law_745 (fun v745 h745 => ?_)
              refine J.pu (fun _ _ _ _ k => lv_iload X.1.1 X.1.2.1 dL_law_746 (lv_at hl 0 rfl) k) ?_
              refine J.pu (fun _ _ _ _ k => lv_i2l (v := v722.toInt64) X.1.1 X.1.2.1 dL_law_748 rfl k) ?_
              refine J.pu (fun _ _ _ _ k => W.lcmp X.1.1 X.1.2.1 dL_law_749 k) ?_
              refine J.br (fun _ _ _ _ ka kb => lv_if_eq (tgt := 755) X.1.1 X.1.2.1 dL_law_750 (by decide) ka kb) (fun c750 => ?_) (fun c750 => ?_)
              · refine J.pu (fun _ _ _ _ k => lv_goto (tgt := 2202) X.1.1 X.1.2.1 dL_law_755 (by decide) k) ?_
                exact j2202 x4_23 S722 ls (lv_sub hl [2, 3, 4, 5, 6] rfl)
              · refine J.pu (fun _ _ _ _ k => lv_iconst (v := 0) X.1.1 X.1.2.1 dL_law_753 (by decide) k) ?_
                exact J.zret (vr := fun t : Int32 × jH => jrI t.1) (fin := Prod.snd) (t := t) X hr (by decide) (by rfl) (by rfl) dL_law_754
            · refine J.pu (fun _ _ _ _ k => lv_goto (tgt := 2202) X.1.1 X.1.2.1 dL_law_755 (by decide) k) ?_
              exact j2202 x4_23 S722 ls (lv_sub hl [2, 3, 4, 5, 6] rfl)
          · refine J.pu (fun _ _ _ _ k => lv_iconst (v := 0) X.1.1 X.1.2.1 dL_law_736 (by decide) k) ?_
            exact J.zret (vr := fun t : Int32 × jH => jrI t.1) (fin := Prod.snd) (t := t) X hr (by decide) (by rfl) (by rfl) dL_law_737
        refine J.ite (fun c40_12 => ?_) (fun c40_12 => ?_)
        · refine J.pu (fun _ _ _ _ k => lv_tableIn (tgt := 758) (off := 718) X.1.1 X.1.2.1 dL_law_40 (by rw [c40_12]; decide) (by rw [c40_12]; decide) (by rw [c40_12]; decide) (by decide) k) ?_
          refine J.pu (fun _ _ _ _ k => W.rload_n X.1.1 X.1.2.1 dL_law_758 rfl (lv_at hl 1 rfl) k) ?_
          refine J.pu (fun _ _ _ _ k => W.rload_n X.1.1 X.1.2.1 dL_law_759 rfl (lv_at hl 0 rfl) k) ?_
          refine J.pu (fun _ _ _ _ k => lv_iload X.1.1 X.1.2.1 dL_law_760 (lv_at hl 4 rfl) k) ?_
          refine J.pu (fun _ _ _ _ k => lv_iconst (v := 1) X.1.1 X.1.2.1 dL_law_762 (by decide) k) ?_
          refine J.pu (fun _ _ _ _ k => lv_iadd X.1.1 X.1.2.1 dL_law_763 k) ?_
          refine J.aI0 X dL_law_764 (fun v764 h764 => ?_)
          refine J.pu (fun _ _ _ _ k => W.rload_n X.1.1 X.1.2.1 dL_law_765 rfl (lv_at hl 0 rfl) k) ?_
          refine J.pu (fun _ _ _ _ k => lv_iload X.1.1 X.1.2.1 dL_law_766 (lv_at hl 4 rfl) k) ?_
          refine J.pu (fun _ _ _ _ k => lv_iconst (v := 2) X.1.1 X.1.2.1 dL_law_768 (by decide) k) ?_
          refine J.pu (fun _ _ _ _ k => lv_iadd X.1.1 X.1.2.1 dL_law_769 k) ?_
          refine J.aI0 X dL_law_770 (fun v770 h770 => ?_)
          refine J.pu (fun _ _ _ _ k => W.rload_n X.1.1 X.1.2.1 dL_law_771 rfl (lv_at hl 3 rfl) k) ?_
          refine J.bd' (fun v772 S772 h772 => ?_)
          refine J.cSW (hh := [(0, 10, 13, 22)]) (As := [va_rf x1_23, .int v764, .int v770, va_rf x3_23]) (rest := []) (s2 := [.int v772]) X ⟨rfl, rfl⟩ (ct_X0_steps l hfl G n B23 x1_23 v764 v770 x3_23) h772 (fun _ _ => vx_cwSW 4 X.1.2.2.2.2 (lw_SW q2492 q2493 q137 q2494) rfl rfl rfl (by decide +kernel) ⟨(Nat.le_of_ble_eq_true rfl), (Nat.le_of_ble_eq_true rfl)⟩) rfl hl.1 rfl rfl (Nat.le_of_ble_eq_true rfl) dL_law_772 ?_
          refine J.istore (lv' := [(5, .int v772), (0, va_rf a0), (1, va_rf x1_23), (2, va_rf x2_23), (3, va_rf x3_23), (4, .int x4_23)]) X.1.1 X.1.2.1 dL_law_775 hl (by decide) (by first | rfl | simp [va_rf_cat, jcI, jcA, jcJ, jcD, jcF]) (fun ls hl => ?_)
          refine J.pu (fun _ _ _ _ k => W.rload_n X.1.1 X.1.2.1 dL_law_777 rfl (lv_at hl 3 rfl) k) ?_
          refine J.pu (fun _ _ _ _ k => W.rload_n X.1.1 X.1.2.1 dL_law_778 rfl (lv_at hl 1 rfl) k) ?_
          refine J.pu (fun _ _ _ _ k => lv_iload X.1.1 X.1.2.1 dL_law_779 (lv_at hl 5 rfl) k) ?_
          refine J.pu (fun _ _ _ _ k => lv_iconst (v := 1) X.1.1 X.1.2.1 dL_law_781 (by decide) k) ?_
          refine J.pu (fun _ _ _ _ k => lv_iadd X.1.1 X.1.2.1 dL_law_782 k) ?_
          refine J.aI0 X dL_law_783 (fun v783 h783 => ?_)
          refine J.pu (fun _ _ _ _ k => W.rload_n X.1.1 X.1.2.1 dL_law_784 rfl (lv_at hl 1 rfl) k) ?_
          refine J.pu (fun _ _ _ _ k => lv_iload X.1.1 X.1.2.1 dL_law_785 (lv_at hl 5 rfl) k) ?_
          refine J.pu (fun _ _ _ _ k => lv_iconst (v := 2) X.1.1 X.1.2.1 dL_law_787 (by decide) k) ?_
          refine J.pu (fun _ _ _ _ k => lv_iadd X.1.1 X.1.2.1 dL_law_788 k) ?_
          refine J.aI0 X dL_law_789 (fun v789 h789 => ?_)
          refine J.bind (fun o790 g790 => ?_)
          refine J.bd' (fun v790 S790 h790 => ?_)
          refine J.cV (q := (RX6, TX6, 26)) (ci := 5) (As := [.int v783, .int v789]) (rest := []) (s2 := [.int v790]) X ⟨rfl, rfl⟩ (jmcw (fun A hm σ9 hs M => ct_X6_steps l hm σ9 n M v783 v789)) h790 (fun _ _ => cwV 2 X.1.2.2.2.2 (lw_V q3131 q3132 q3133 q174 q3134) rfl rfl rfl (by decide +kernel) ⟨(Nat.le_of_ble_eq_true rfl), (Nat.le_of_ble_eq_true rfl)⟩) g790 rfl rfl hl.1 rfl rfl (Nat.le_of_ble_eq_true rfl) dL_law_790 ?_
          refine J.istore (lv' := [(6, .int v790), (5, .int v772), (0, va_rf a0), (1, va_rf x1_23), (2, va_rf x2_23), (3, va_rf x3_23), (4, .int x4_23)]) X.1.1 X.1.2.1 dL_law_793 hl (by decide) (by first | rfl | simp [va_rf_cat, jcI, jcA, jcJ, jcD, jcF]) (fun ls hl => ?_)
          refine J.pu (fun _ _ _ _ k => W.rload_n X.1.1 X.1.2.1 dL_law_795 rfl (lv_at hl 4 rfl) k) ?_
          refine J.bind (fun o796 g796 => ?_)
          refine J.bind (fun v796 h796 => ?_)
          refine J.cV (q := (RX6, TX6, 26)) (ci := 5) (As := []) (rest := []) (s2 := [.int v796]) X ⟨rfl, rfl⟩ (jmcr (fun A hm σ9 hs M => ct_X6_thrown l hm σ9 n M)) (jrd_of h796) (fun _ _ => cwV 0 X.1.2.2.2.2 (lw_V q2809 q2810 q2811 q174 q2812) rfl rfl rfl (by decide +kernel) ⟨(Nat.le_of_ble_eq_true rfl), (Nat.le_of_ble_eq_true rfl)⟩) g796 rfl rfl hl.1 rfl rfl (Nat.le_of_ble_eq_true rfl) dL_law_796 ?_
          refine J.pu (fun _ _ _ _ k => lv_iload X.1.1 X.1.2.1 dL_law_799 (lv_at hl 1 rfl) k) ?_
          refine J.br (fun _ _ _ _ ka kb => lv_icmp_eq (tgt := 806) X.1.1 X.1.2.1 dL_law_801 (by decide) ka kb) (fun c801 => ?_) (fun c801 => ?_)
          · refine J.pu (fun _ _ _ _ k => lv_iload X.1.1 X.1.2.1 dL_law_806 (lv_at hl 1 rfl) k) ?_
            refine J.br (fun _ _ _ _ ka kb => lv_if_ne (tgt := 823) X.1.1 X.1.2.1 dL_law_808 (by decide) kb ka) (fun c808 => ?_) (fun c808 => ?_)
            · refine J.pu (fun _ _ _ _ k => W.rload_n X.1.1 X.1.2.1 dL_law_811 rfl (lv_at hl 5 rfl) k) ?_
              refine J.pu (fun _ _ _ _ k => lv_iconst (v := 0) X.1.1 X.1.2.1 dL_law_812 (by decide) k) ?_
              refine J.aJ' X dL_law_813 (fun v813 h813 => ?_)
              refine J.pu (fun _ _ _ _ k => lv_iload X.1.1 X.1.2.1 dL_law_814 (lv_at hl 0 rfl) k) ?_
              refine J.pu (fun _ _ _ _ k => lv_i2l (v := v790.toInt64) X.1.1 X.1.2.1 dL_law_816 rfl k) ?_
              refine J.pu (fun _ _ _ _ k => W.lcmp X.1.1 X.1.2.1 dL_law_817 k) ?_
              refine J.br (fun _ _ _ _ ka kb => lv_if_eq (tgt := 823) X.1.1 X.1.2.1 dL_law_818 (by decide) ka kb) (fun c818 => ?_) (fun c818 => ?_)
              · refine J.pu (fun _ _ _ _ k => lv_goto (tgt := 2202) X.1.1 X.1.2.1 dL_law_823 (by decide) k) ?_
                exact j2202 x4_23 S790 ls (lv_sub hl [2, 3, 4, 5, 6] rfl)
              · refine J.pu (fun _ _ _ _ k => lv_iconst (v := 0) X.1.1 X.1.2.1 dL_law_821 (by decide) k) ?_
                exact J.zret (vr := fun t : Int32 × jH => jrI t.1) (fin := Prod.snd) (t := t) X hr (by decide) (by rfl) (by rfl) dL_law_822
            · refine J.pu (fun _ _ _ _ k => lv_goto (tgt := 2202) X.1.1 X.1.2.1 dL_law_823 (by decide) k) ?_
              exact j2202 x4_23 S790 ls (lv_sub hl [2, 3, 4, 5, 6] rfl)
          · refine J.pu (fun _ _ _ _ k => lv_iconst (v := 0) X.1.1 X.1.2.1 dL_law_804 (by decide) k) ?_
            exact J.zret (vr := fun t : Int32 × jH => jrI t.1) (fin := Prod.snd) (t := t) X hr (by decide) (by rfl) (by rfl) dL_law_805
        refine J.ite (fun c40_13 => ?_) (fun c40_13 => ?_)
        · refine J.pu (fun _ _ _ _ k => lv_tableIn (tgt := 826) (off := 786) X.1.1 X.1.2.1 dL_law_40 (by rw [c40_13]; decide) (by rw [c40_13]; decide) (by rw [c40_13]; decide) (by decide) k) ?_
          refine J.pu (fun _ _ _ _ k => W.rload_n X.1.1 X.1.2.1 dL_law_826 rfl (lv_at hl 1 rfl) k) ?_
          refine J.pu (fun _ _ _ _ k => W.rload_n X.1.1 X.1.2.1 dL_law_827 rfl (lv_at hl 0 rfl) k) ?_
          refine J.pu (fun _ _ _ _ k => lv_iload X.1.1 X.1.2.1 dL_law_828 (lv_at hl 4 rfl) k) ?_
          refine J.pu (fun _ _ _ _ k => lv_iconst (v := 1) X.1.1 X.1.2.1 dL_law_830 (by decide) k) ?_
          refine J.pu (fun _ _ _ _ k => lv_iadd X.1.1 X.1.2.1 dL_law_831 k) ?_
          refine J.aI0 X dL_law_832 (fun v832 h832 => ?_)
          refine J.pu (fun _ _ _ _ k => W.rload_n X.1.1 X.1.2.1 dL_law_833 rfl (lv_at hl 3 rfl) k) ?_
          refine J.bd' (fun v834 S834 h834 => ?_)
          refine J.cSW (hh := [(0, 9, 12, 22)]) (As := [va_rf x1_23, .int v832, va_rf x3_23]) (rest := []) (s2 := [.int v834]) X ⟨rfl, rfl⟩ (ct_X0_toScanner l hfl G n B23 x1_23 v832 x3_23) h834 (fun _ _ => vx_cwSW 3 X.1.2.2.2.2 (lw_SW q2500 q2501 q137 q2502) rfl rfl rfl (by decide +kernel) ⟨(Nat.le_of_ble_eq_true rfl), (Nat.le_of_ble_eq_true rfl)⟩) rfl hl.1 rfl rfl (Nat.le_of_ble_eq_true rfl) dL_law_834 ?_
          refine J.istore (lv' := [(5, .int v834), (0, va_rf a0), (1, va_rf x1_23), (2, va_rf x2_23), (3, va_rf x3_23), (4, .int x4_23)]) X.1.1 X.1.2.1 dL_law_837 hl (by decide) (by first | rfl | simp [va_rf_cat, jcI, jcA, jcJ, jcD, jcF]) (fun ls hl => ?_)
          refine J.pu (fun _ _ _ _ k => W.rload_n X.1.1 X.1.2.1 dL_law_839 rfl (lv_at hl 3 rfl) k) ?_
          refine J.pu (fun _ _ _ _ k => W.rload_n X.1.1 X.1.2.1 dL_law_840 rfl (lv_at hl 1 rfl) k) ?_
          refine J.pu (fun _ _ _ _ k => lv_iload X.1.1 X.1.2.1 dL_law_841 (lv_at hl 5 rfl) k) ?_
          refine J.pu (fun _ _ _ _ k => lv_iconst (v := 1) X.1.1 X.1.2.1 dL_law_843 (by decide) k) ?_
          refine J.pu (fun _ _ _ _ k => lv_iadd X.1.1 X.1.2.1 dL_law_844 k) ?_
          refine J.aI0 X dL_law_845 (fun v845 h845 => ?_)
          refine J.bind (fun o846 g846 => ?_)
          refine J.bd' (fun v846 S846 h846 => ?_)
          refine J.cV (q := (RX6, TX6, 26)) (ci := 5) (As := [.int v845]) (rest := []) (s2 := [.int v846]) X ⟨rfl, rfl⟩ (jmcw (fun A hm σ9 hs M => ct_X6_toScanner l hm σ9 n M v845)) h846 (fun _ _ => cwV 1 X.1.2.2.2.2 (lw_V q3135 q3136 q3137 q174 q3138) rfl rfl rfl (by decide +kernel) ⟨(Nat.le_of_ble_eq_true rfl), (Nat.le_of_ble_eq_true rfl)⟩) g846 rfl rfl hl.1 rfl rfl (Nat.le_of_ble_eq_true rfl) dL_law_846 ?_
          refine J.istore (lv' := [(6, .int v846), (5, .int v834), (0, va_rf a0), (1, va_rf x1_23), (2, va_rf x2_23), (3, va_rf x3_23), (4, .int x4_23)]) X.1.1 X.1.2.1 dL_law_849 hl (by decide) (by first | rfl | simp [va_rf_cat, jcI, jcA, jcJ, jcD, jcF]) (fun ls hl => ?_)
          refine J.pu (fun _ _ _ _ k => W.rload_n X.1.1 X.1.2.1 dL_law_851 rfl (lv_at hl 4 rfl) k) ?_
          refine J.bind (fun o852 g852 => ?_)
          refine J.bind (fun v852 h852 => ?_)
          refine J.cV (q := (RX6, TX6, 26)) (ci := 5) (As := []) (rest := []) (s2 := [.int v852]) X ⟨rfl, rfl⟩ (jmcr (fun A hm σ9 hs M => ct_X6_thrown l hm σ9 n M)) (jrd_of h852) (fun _ _ => cwV 0 X.1.2.2.2.2 (lw_V q2809 q2810 q2811 q174 q2812) rfl rfl rfl (by decide +kernel) ⟨(Nat.le_of_ble_eq_true rfl), (Nat.le_of_ble_eq_true rfl)⟩) g852 rfl rfl hl.1 rfl rfl (Nat.le_of_ble_eq_true rfl) dL_law_852 ?_
          refine J.pu (fun _ _ _ _ k => lv_iload X.1.1 X.1.2.1 dL_law_855 (lv_at hl 1 rfl) k) ?_
          refine J.br (fun _ _ _ _ ka kb => lv_icmp_eq (tgt := 862) X.1.1 X.1.2.1 dL_law_857 (by decide) ka kb) (fun c857 => ?_) (fun c857 => ?_)
          · refine J.pu (fun _ _ _ _ k => lv_iload X.1.1 X.1.2.1 dL_law_862 (lv_at hl 1 rfl) k) ?_
            refine J.br (fun _ _ _ _ ka kb => lv_if_ne (tgt := 879) X.1.1 X.1.2.1 dL_law_864 (by decide) kb ka) (fun c864 => ?_) (fun c864 => ?_)
            · refine J.pu (fun _ _ _ _ k => W.rload_n X.1.1 X.1.2.1 dL_law_867 rfl (lv_at hl 5 rfl) k) ?_
              refine J.pu (fun _ _ _ _ k => lv_iconst (v := 0) X.1.1 X.1.2.1 dL_law_868 (by decide) k) ?_
              refine J.aJ' X dL_law_869 (fun v869 h869 => ?_)
              refine J.pu (fun _ _ _ _ k => lv_iload X.1.1 X.1.2.1 dL_law_870 (lv_at hl 0 rfl) k) ?_
              refine J.pu (fun _ _ _ _ k => lv_i2l (v := v846.toInt64) X.1.1 X.1.2.1 dL_law_872 rfl k) ?_
              refine J.pu (fun _ _ _ _ k => W.lcmp X.1.1 X.1.2.1 dL_law_873 k) ?_
              refine J.br (fun _ _ _ _ ka kb => lv_if_eq (tgt := 879) X.1.1 X.1.2.1 dL_law_874 (by decide) ka kb) (fun c874 => ?_) (fun c874 => ?_)
              · refine J.pu (fun _ _ _ _ k => lv_goto (tgt := 2202) X.1.1 X.1.2.1 dL_law_879 (by decide) k) ?_
                exact j2202 x4_23 S846 ls (lv_sub hl [2, 3, 4, 5, 6] rfl)
              · refine J.pu (fun _ _ _ _ k => lv_iconst (v := 0) X.1.1 X.1.2.1 dL_law_877 (by decide) k) ?_
                exact J.zret (vr := fun t : Int32 × jH => jrI t.1) (fin := Prod.snd) (t := t) X hr (by decide) (by rfl) (by rfl) dL_law_878
            · refine J.pu (fun _ _ _ _ k => lv_goto (tgt := 2202) X.1.1 X.1.2.1 dL_law_879 (by decide) k) ?_
              exact j2202 x4_23 S846 ls (lv_sub hl [2, 3, 4, 5, 6] rfl)
          · refine J.pu (fun _ _ _ _ k => lv_iconst (v := 0) X.1.1 X.1.2.1 dL_law_860 (by decide) k) ?_
            exact J.zret (vr := fun t : Int32 × jH => jrI t.1) (fin := Prod.snd) (t := t) X hr (by decide) (by rfl) (by rfl) dL_law_861
        refine J.ite (fun c40_14 => ?_) (fun c40_14 => ?_)
        · refine J.pu (fun _ _ _ _ k => lv_tableIn (tgt := 882) (off := 842) X.1.1 X.1.2.1 dL_law_40 (by rw [c40_14]; decide) (by rw [c40_14]; decide) (by rw [c40_14]; decide) (by decide) k) ?_
          refine J.pu (fun _ _ _ _ k => W.rload_n X.1.1 X.1.2.1 dL_law_882 rfl (lv_at hl 1 rfl) k) ?_
          refine J.pu (fun _ _ _ _ k => W.rload_n X.1.1 X.1.2.1 dL_law_883 rfl (lv_at hl 0 rfl) k) ?_
          refine J.pu (fun _ _ _ _ k => lv_iload X.1.1 X.1.2.1 dL_law_884 (lv_at hl 4 rfl) k) ?_
          refine J.pu (fun _ _ _ _ k => lv_iconst (v := 1) X.1.1 X.1.2.1 dL_law_886 (by decide) k) ?_
          refine J.pu (fun _ _ _ _ k => lv_iadd X.1.1 X.1.2.1 dL_law_887 k) ?_
          refine J.aI0 X dL_law_888 (fun v888 h888 => ?_)
          refine J.pu (fun _ _ _ _ k => W.rload_n X.1.1 X.1.2.1 dL_law_889 rfl (lv_at hl 3 rfl) k) ?_
          refine J.bd' (fun v890 S890 h890 => ?_)
          refine J.cSW (hh := [(0, 9, 12, 22)]) (As := [va_rf x1_23, .int v888, va_rf x3_23]) (rest := []) (s2 := [.int v890]) X ⟨rfl, rfl⟩ (ct_X0_toChute l hfl G n B23 x1_23 v888 x3_23) h890 (fun _ _ => vx_cwSW 3 X.1.2.2.2.2 (lw_SW q2511 q2512 q137 q2513) rfl rfl rfl (by decide +kernel) ⟨(Nat.le_of_ble_eq_true rfl), (Nat.le_of_ble_eq_true rfl)⟩) rfl hl.1 rfl rfl (Nat.le_of_ble_eq_true rfl) dL_law_890 ?_
          refine J.istore (lv' := [(5, .int v890), (0, va_rf a0), (1, va_rf x1_23), (2, va_rf x2_23), (3, va_rf x3_23), (4, .int x4_23)]) X.1.1 X.1.2.1 dL_law_893 hl (by decide) (by first | rfl | simp [va_rf_cat, jcI, jcA, jcJ, jcD, jcF]) (fun ls hl => ?_)
          refine J.pu (fun _ _ _ _ k => W.rload_n X.1.1 X.1.2.1 dL_law_895 rfl (lv_at hl 3 rfl) k) ?_
          refine J.pu (fun _ _ _ _ k => W.rload_n X.1.1 X.1.2.1 dL_law_896 rfl (lv_at hl 1 rfl) k) ?_
          refine J.pu (fun _ _ _ _ k => lv_iload X.1.1 X.1.2.1 dL_law_897 (lv_at hl 5 rfl) k) ?_
          refine J.pu (fun _ _ _ _ k => lv_iconst (v := 1) X.1.1 X.1.2.1 dL_law_899 (by decide) k) ?_
          refine J.pu (fun _ _ _ _ k => lv_iadd X.1.1 X.1.2.1 dL_law_900 k) ?_
          refine J.aI0 X dL_law_901 (fun v901 h901 => ?_)
          refine J.bind (fun o902 g902 => ?_)
          refine J.bd' (fun v902 S902 h902 => ?_)
          refine J.cV (q := (RX6, TX6, 26)) (ci := 5) (As := [.int v901]) (rest := []) (s2 := [.int v902]) X ⟨rfl, rfl⟩ (jmcw (fun A hm σ9 hs M => ct_X6_toChute l hm σ9 n M v901)) h902 (fun _ _ => cwV 1 X.1.2.2.2.2 (lw_V q3148 q3149 q3150 q174 q3151) rfl rfl rfl (by decide +kernel) ⟨(Nat.le_of_ble_eq_true rfl), (Nat.le_of_ble_eq_true rfl)⟩) g902 rfl rfl hl.1 rfl rfl (Nat.le_of_ble_eq_true rfl) dL_law_902 ?_
          refine J.istore (lv' := [(6, .int v902), (5, .int v890), (0, va_rf a0), (1, va_rf x1_23), (2, va_rf x2_23), (3, va_rf x3_23), (4, .int x4_23)]) X.1.1 X.1.2.1 dL_law_905 hl (by decide) (by first | rfl | simp [va_rf_cat, jcI, jcA, jcJ, jcD, jcF]) (fun ls hl => ?_)
          refine J.pu (fun _ _ _ _ k => W.rload_n X.1.1 X.1.2.1 dL_law_907 rfl (lv_at hl 4 rfl) k) ?_
          refine J.bind (fun o908 g908 => ?_)
          refine J.bind (fun v908 h908 => ?_)
          refine J.cV (q := (RX6, TX6, 26)) (ci := 5) (As := []) (rest := []) (s2 := [.int v908]) X ⟨rfl, rfl⟩ (jmcr (fun A hm σ9 hs M => ct_X6_thrown l hm σ9 n M)) (jrd_of h908) (fun _ _ => cwV 0 X.1.2.2.2.2 (lw_V q2809 q2810 q2811 q174 q2812) rfl rfl rfl (by decide +kernel) ⟨(Nat.le_of_ble_eq_true rfl), (Nat.le_of_ble_eq_true rfl)⟩) g908 rfl rfl hl.1 rfl rfl (Nat.le_of_ble_eq_true rfl) dL_law_908 ?_
          refine J.pu (fun _ _ _ _ k => lv_iload X.1.1 X.1.2.1 dL_law_911 (lv_at hl 1 rfl) k) ?_
          refine J.br (fun _ _ _ _ ka kb => lv_icmp_eq (tgt := 918) X.1.1 X.1.2.1 dL_law_913 (by decide) ka kb) (fun c913 => ?_) (fun c913 => ?_)
          · refine J.pu (fun _ _ _ _ k => lv_iload X.1.1 X.1.2.1 dL_law_918 (lv_at hl 1 rfl) k) ?_
            refine J.br (fun _ _ _ _ ka kb => lv_if_ne (tgt := 935) X.1.1 X.1.2.1 dL_law_920 (by decide) kb ka) (fun c920 => ?_) (fun c920 => ?_)
            · refine J.pu (fun _ _ _ _ k => W.rload_n X.1.1 X.1.2.1 dL_law_923 rfl (lv_at hl 5 rfl) k) ?_
              refine J.pu (fun _ _ _ _ k => lv_iconst (v := 0) X.1.1 X.1.2.1 dL_law_924 (by decide) k) ?_
              refine J.aJ' X dL_law_925 (fun v925 h925 => ?_)
              refine J.pu (fun _ _ _ _ k => lv_iload X.1.1 X.1.2.1 dL_law_926 (lv_at hl 0 rfl) k) ?_
              refine J.pu (fun _ _ _ _ k => lv_i2l (v := v902.toInt64) X.1.1 X.1.2.1 dL_law_928 rfl k) ?_
              refine J.pu (fun _ _ _ _ k => W.lcmp X.1.1 X.1.2.1 dL_law_929 k) ?_
              refine J.br (fun _ _ _ _ ka kb => lv_if_eq (tgt := 935) X.1.1 X.1.2.1 dL_law_930 (by decide) ka kb) (fun c930 => ?_) (fun c930 => ?_)
              · refine J.pu (fun _ _ _ _ k => lv_goto (tgt := 2202) X.1.1 X.1.2.1 dL_law_935 (by decide) k) ?_
                exact j2202 x4_23 S902 ls (lv_sub hl [2, 3, 4, 5, 6] rfl)
              · refine J.pu (fun _ _ _ _ k => lv_iconst (v := 0) X.1.1 X.1.2.1 dL_law_933 (by decide) k) ?_
                exact J.zret (vr := fun t : Int32 × jH => jrI t.1) (fin := Prod.snd) (t := t) X hr (by decide) (by rfl) (by rfl) dL_law_934
            · refine J.pu (fun _ _ _ _ k => lv_goto (tgt := 2202) X.1.1 X.1.2.1 dL_law_935 (by decide) k) ?_
              exact j2202 x4_23 S902 ls (lv_sub hl [2, 3, 4, 5, 6] rfl)
          · refine J.pu (fun _ _ _ _ k => lv_iconst (v := 0) X.1.1 X.1.2.1 dL_law_916 (by decide) k) ?_
            exact J.zret (vr := fun t : Int32 × jH => jrI t.1) (fin := Prod.snd) (t := t) X hr (by decide) (by rfl) (by rfl) dL_law_917
        refine J.ite (fun c40_15 => ?_) (fun c40_15 => ?_)
        · refine J.pu (fun _ _ _ _ k => lv_tableIn (tgt := 938) (off := 898) X.1.1 X.1.2.1 dL_law_40 (by rw [c40_15]; decide) (by rw [c40_15]; decide) (by rw [c40_15]; decide) (by decide) k) ?_
          refine J.pu (fun _ _ _ _ k => W.rload_n X.1.1 X.1.2.1 dL_law_938 rfl (lv_at hl 1 rfl) k) ?_
          refine J.pu (fun _ _ _ _ k => W.rload_n X.1.1 X.1.2.1 dL_law_939 rfl (lv_at hl 0 rfl) k) ?_
          refine J.pu (fun _ _ _ _ k => lv_iload X.1.1 X.1.2.1 dL_law_940 (lv_at hl 4 rfl) k) ?_
          refine J.pu (fun _ _ _ _ k => lv_iconst (v := 1) X.1.1 X.1.2.1 dL_law_942 (by decide) k) ?_
          refine J.pu (fun _ _ _ _ k => lv_iadd X.1.1 X.1.2.1 dL_law_943 k) ?_
          refine J.aI0 X dL_law_944 (fun v944 h944 => ?_)
          refine J.pu (fun _ _ _ _ k => W.rload_n X.1.1 X.1.2.1 dL_law_945 rfl (lv_at hl 0 rfl) k) ?_
          refine J.pu (fun _ _ _ _ k => lv_iload X.1.1 X.1.2.1 dL_law_946 (lv_at hl 4 rfl) k) ?_
          refine J.pu (fun _ _ _ _ k => lv_iconst (v := 2) X.1.1 X.1.2.1 dL_law_948 (by decide) k) ?_
          refine J.pu (fun _ _ _ _ k => lv_iadd X.1.1 X.1.2.1 dL_law_949 k) ?_
          refine J.aI0 X dL_law_950 (fun v950 h950 => ?_)
          refine J.pu (fun _ _ _ _ k => W.rload_n X.1.1 X.1.2.1 dL_law_951 rfl (lv_at hl 3 rfl) k) ?_
          refine J.bd' (fun v952 S952 h952 => ?_)
          refine J.cSW (hh := [(0, 10, 13, 22), (0, 10, 17, 13)]) (As := [va_rf x1_23, .int v944, .int v950, va_rf x3_23]) (rest := []) (s2 := [.int v952]) X ⟨rfl, rfl⟩ (ct_X0_why l hfl G n B23 x1_23 v944 v950 x3_23) h952 (fun _ _ => vx_cwSW 4 X.1.2.2.2.2 (lw_SW q2522 q2523 q137 q2524) rfl rfl rfl (by decide +kernel) ⟨(Nat.le_of_ble_eq_true rfl), (Nat.le_of_ble_eq_true rfl)⟩) rfl hl.1 rfl rfl (Nat.le_of_ble_eq_true rfl) dL_law_952 ?_
          refine J.istore (lv' := [(5, .int v952), (0, va_rf a0), (1, va_rf x1_23), (2, va_rf x2_23), (3, va_rf x3_23), (4, .int x4_23)]) X.1.1 X.1.2.1 dL_law_955 hl (by decide) (by first | rfl | simp [va_rf_cat, jcI, jcA, jcJ, jcD, jcF]) (fun ls hl => ?_)
          refine J.pu (fun _ _ _ _ k => W.rload_n X.1.1 X.1.2.1 dL_law_957 rfl (lv_at hl 3 rfl) k) ?_
          refine J.pu (fun _ _ _ _ k => W.rload_n X.1.1 X.1.2.1 dL_law_958 rfl (lv_at hl 1 rfl) k) ?_
          refine J.pu (fun _ _ _ _ k => lv_iload X.1.1 X.1.2.1 dL_law_959 (lv_at hl 5 rfl) k) ?_
          refine J.pu (fun _ _ _ _ k => lv_iconst (v := 1) X.1.1 X.1.2.1 dL_law_961 (by decide) k) ?_
          refine J.pu (fun _ _ _ _ k => lv_iadd X.1.1 X.1.2.1 dL_law_962 k) ?_
          refine J.aI0 X dL_law_963 (fun v963 h963 => ?_)
          refine J.pu (fun _ _ _ _ k => W.rload_n X.1.1 X.1.2.1 dL_law_964 rfl (lv_at hl 1 rfl) k) ?_
          refine J.pu (fun _ _ _ _ k => lv_iload X.1.1 X.1.2.1 dL_law_965 (lv_at hl 5 rfl) k) ?_
          refine J.pu (fun _ _ _ _ k => lv_iconst (v := 2) X.1.1 X.1.2.1 dL_law_967 (by decide) k) ?_
          refine J.pu (fun _ _ _ _ k => lv_iadd X.1.1 X.1.2.1 dL_law_968 k) ?_
          refine J.aI0 X dL_law_969 (fun v969 h969 => ?_)
          refine J.bind (fun o970 g970 => ?_)
          refine J.bd' (fun v970 S970 h970 => ?_)
          refine J.cV (q := (RX6, TX6, 26)) (ci := 5) (As := [.int v963, .int v969]) (rest := []) (s2 := [.int v970]) X ⟨rfl, rfl⟩ (jmcw (fun A hm σ9 hs M => ct_X6_why l hm σ9 n M v963 v969)) h970 (fun _ _ => cwV 2 X.1.2.2.2.2 (lw_V q3156 q3157 q3158 q174 q3159) rfl rfl rfl (by decide +kernel) ⟨(Nat.le_of_ble_eq_true rfl), (Nat.le_of_ble_eq_true rfl)⟩) g970 rfl rfl hl.1 rfl rfl (Nat.le_of_ble_eq_true rfl) dL_law_970 ?_
          refine J.istore (lv' := [(6, .int v970), (5, .int v952), (0, va_rf a0), (1, va_rf x1_23), (2, va_rf x2_23), (3, va_rf x3_23), (4, .int x4_23)]) X.1.1 X.1.2.1 dL_law_973 hl (by decide) (by first | rfl | simp [va_rf_cat, jcI, jcA, jcJ, jcD, jcF]) (fun ls hl => ?_)
          refine J.pu (fun _ _ _ _ k => W.rload_n X.1.1 X.1.2.1 dL_law_975 rfl (lv_at hl 4 rfl) k) ?_
          refine J.bind (fun o976 g976 => ?_)
          refine J.bind (fun v976 h976 => ?_)
          refine J.cV (q := (RX6, TX6, 26)) (ci := 5) (As := []) (rest := []) (s2 := [.int v976]) X ⟨rfl, rfl⟩ (jmcr (fun A hm σ9 hs M => ct_X6_thrown l hm σ9 n M)) (jrd_of h976) (fun _ _ => cwV 0 X.1.2.2.2.2 (lw_V q2809 q2810 q2811 q174 q2812) rfl rfl rfl (by decide +kernel) ⟨(Nat.le_of_ble_eq_true rfl), (Nat.le_of_ble_eq_true rfl)⟩) g976 rfl rfl hl.1 rfl rfl (Nat.le_of_ble_eq_true rfl) dL_law_976 ?_
          refine J.pu (fun _ _ _ _ k => lv_iload X.1.1 X.1.2.1 dL_law_979 (lv_at hl 1 rfl) k) ?_
          refine J.br (fun _ _ _ _ ka kb => lv_icmp_eq (tgt := 986) X.1.1 X.1.2.1 dL_law_981 (by decide) ka kb) (fun c981 => ?_) (fun c981 => ?_)
          · refine J.pu (fun _ _ _ _ k => lv_iload X.1.1 X.1.2.1 dL_law_986 (lv_at hl 1 rfl) k) ?_
            refine J.br (fun _ _ _ _ ka kb => lv_if_ne (tgt := 1003) X.1.1 X.1.2.1 dL_law_988 (by decide) kb ka) (fun c988 => ?_) (fun c988 => ?_)
            · refine J.pu (fun _ _ _ _ k => W.rload_n X.1.1 X.1.2.1 dL_law_991 rfl (lv_at hl 5 rfl) k) ?_
              refine J.pu (fun _ _ _ _ k => lv_iconst (v := 0) X.1.1 X.1.2.1 dL_law_992 (by decide) k) ?_
              refine J.aJ' X dL_law_993 (fun v993 h993 => ?_)
              refine J.pu (fun _ _ _ _ k => lv_iload X.1.1 X.1.2.1 dL_law_994 (lv_at hl 0 rfl) k) ?_
              refine J.pu (fun _ _ _ _ k => lv_i2l (v := v970.toInt64) X.1.1 X.1.2.1 dL_law_996 rfl k) ?_
              refine J.pu (fun _ _ _ _ k => W.lcmp X.1.1 X.1.2.1 dL_law_997 k) ?_
              refine J.br (fun _ _ _ _ ka kb => lv_if_eq (tgt := 1003) X.1.1 X.1.2.1 dL_law_998 (by decide) ka kb) (fun c998 => ?_) (fun c998 => ?_)
              · refine J.pu (fun _ _ _ _ k => lv_goto (tgt := 2202) X.1.1 X.1.2.1 dL_law_1003 (by decide) k) ?_
                exact j2202 x4_23 S970 ls (lv_sub hl [2, 3, 4, 5, 6] rfl)
              · refine J.pu (fun _ _ _ _ k => lv_iconst (v := 0) X.1.1 X.1.2.1 dL_law_1001 (by decide) k) ?_
                exact J.zret (vr := fun t : Int32 × jH => jrI t.1) (fin := Prod.snd) (t := t) X hr (by decide) (by rfl) (by rfl) dL_law_1002
            · refine J.pu (fun _ _ _ _ k => lv_goto (tgt := 2202) X.1.1 X.1.2.1 dL_law_1003 (by decide) k) ?_
              exact j2202 x4_23 S970 ls (lv_sub hl [2, 3, 4, 5, 6] rfl)
          · refine J.pu (fun _ _ _ _ k => lv_iconst (v := 0) X.1.1 X.1.2.1 dL_law_984 (by decide) k) ?_
            exact J.zret (vr := fun t : Int32 × jH => jrI t.1) (fin := Prod.snd) (t := t) X hr (by decide) (by rfl) (by rfl) dL_law_985
        refine J.ite (fun c40_16 => ?_) (fun c40_16 => ?_)
        · refine J.pu (fun _ _ _ _ k => lv_tableIn (tgt := 1006) (off := 966) X.1.1 X.1.2.1 dL_law_40 (by rw [c40_16]; decide) (by rw [c40_16]; decide) (by rw [c40_16]; decide) (by decide) k) ?_
          refine J.pu (fun _ _ _ _ k => W.rload_n X.1.1 X.1.2.1 dL_law_1006 rfl (lv_at hl 1 rfl) k) ?_
          refine J.bind (fun o1007 g1007 => ?_)
          refine J.bind (fun v1007 h1007 => ?_)
          refine J.cV (q := (RX1, TX1, 9)) (ci := 0) (As := []) (rest := []) (s2 := [.int v1007]) X ⟨rfl, rfl⟩ (ct_X1_whyNoPut l G n B23 o1007) (jrd_of h1007) (fun _ _ => cwV 0 X.1.2.2.2.2 (lw_V q2153 q2154 q2155 q138 q2156) rfl rfl rfl (by decide +kernel) ⟨(Nat.le_of_ble_eq_true rfl), (Nat.le_of_ble_eq_true rfl)⟩) g1007 rfl rfl hl.1 rfl rfl (Nat.le_of_ble_eq_true rfl) dL_law_1007 ?_
          refine J.pu (fun _ _ _ _ k => W.rload_n X.1.1 X.1.2.1 dL_law_1010 rfl (lv_at hl 2 rfl) k) ?_
          refine J.bind (fun o1011 g1011 => ?_)
          refine J.bd' (fun v1011 S1011 h1011 => ?_)
          refine J.cV (q := (RX6, TX6, 26)) (ci := 5) (As := []) (rest := [.int v1007]) (s2 := [.int v1011, .int v1007]) X ⟨rfl, rfl⟩ (jmcw (fun A hm σ9 hs M => ct_X6_whyNoPut l hm σ9 n M)) h1011 (fun _ _ => cwV 0 X.1.2.2.2.2 (lw_V q3172 q3173 q3174 q174 q3175) rfl rfl rfl (by decide +kernel) ⟨(Nat.le_of_ble_eq_true rfl), (Nat.le_of_ble_eq_true rfl)⟩) g1011 rfl rfl hl.1 rfl rfl (Nat.le_of_ble_eq_true rfl) dL_law_1011 ?_
          refine J.br (fun _ _ _ _ ka kb => lv_icmp_eq (tgt := 2202) X.1.1 X.1.2.1 dL_law_1014 (by decide) ka kb) (fun c1014 => ?_) (fun c1014 => ?_)
          · exact j2202 x4_23 S1011 ls (lv_sub hl [0, 1, 2, 3, 4] rfl)
          · refine J.pu (fun _ _ _ _ k => lv_iconst (v := 0) X.1.1 X.1.2.1 dL_law_1017 (by decide) k) ?_
            exact J.zret (vr := fun t : Int32 × jH => jrI t.1) (fin := Prod.snd) (t := t) X hr (by decide) (by rfl) (by rfl) dL_law_1018
        refine J.ite (fun c40_17 => ?_) (fun c40_17 => ?_)
        · refine J.pu (fun _ _ _ _ k => lv_tableIn (tgt := 1019) (off := 979) X.1.1 X.1.2.1 dL_law_40 (by rw [c40_17]; decide) (by rw [c40_17]; decide) (by rw [c40_17]; decide) (by decide) k) ?_
          refine J.pu (fun _ _ _ _ k => W.rload_n X.1.1 X.1.2.1 dL_law_1019 rfl (lv_at hl 1 rfl) k) ?_
          refine J.pu (fun _ _ _ _ k => W.rload_n X.1.1 X.1.2.1 dL_law_1020 rfl (lv_at hl 0 rfl) k) ?_
          refine J.pu (fun _ _ _ _ k => lv_iload X.1.1 X.1.2.1 dL_law_1021 (lv_at hl 4 rfl) k) ?_
          refine J.pu (fun _ _ _ _ k => lv_iconst (v := 1) X.1.1 X.1.2.1 dL_law_1023 (by decide) k) ?_
          refine J.pu (fun _ _ _ _ k => lv_iadd X.1.1 X.1.2.1 dL_law_1024 k) ?_
          refine J.aI0 X dL_law_1025 (fun v1025 h1025 => ?_)
          refine J.pu (fun _ _ _ _ k => W.rload_n X.1.1 X.1.2.1 dL_law_1026 rfl (lv_at hl 3 rfl) k) ?_
          refine J.bd' (fun v1027 S1027 h1027 => ?_)
          refine J.cSW (hh := [(0, 9, 12, 22)]) (As := [va_rf x1_23, .int v1025, va_rf x3_23]) (rest := []) (s2 := [.int v1027]) X ⟨rfl, rfl⟩ (ct_X0_whyNoSlip l hfl G n B23 x1_23 v1025 x3_23) h1027 (fun _ _ => vx_cwSW 3 X.1.2.2.2.2 (lw_SW q2548 q2549 q137 q2550) rfl rfl rfl (by decide +kernel) ⟨(Nat.le_of_ble_eq_true rfl), (Nat.le_of_ble_eq_true rfl)⟩) rfl hl.1 rfl rfl (Nat.le_of_ble_eq_true rfl) dL_law_1027 ?_
          refine J.istore (lv' := [(5, .int v1027), (0, va_rf a0), (1, va_rf x1_23), (2, va_rf x2_23), (3, va_rf x3_23), (4, .int x4_23)]) X.1.1 X.1.2.1 dL_law_1030 hl (by decide) (by first | rfl | simp [va_rf_cat, jcI, jcA, jcJ, jcD, jcF]) (fun ls hl => ?_)
          refine J.pu (fun _ _ _ _ k => W.rload_n X.1.1 X.1.2.1 dL_law_1032 rfl (lv_at hl 3 rfl) k) ?_
          refine J.pu (fun _ _ _ _ k => W.rload_n X.1.1 X.1.2.1 dL_law_1033 rfl (lv_at hl 1 rfl) k) ?_
          refine J.pu (fun _ _ _ _ k => lv_iload X.1.1 X.1.2.1 dL_law_1034 (lv_at hl 5 rfl) k) ?_
          refine J.pu (fun _ _ _ _ k => lv_iconst (v := 1) X.1.1 X.1.2.1 dL_law_1036 (by decide) k) ?_
          refine J.pu (fun _ _ _ _ k => lv_iadd X.1.1 X.1.2.1 dL_law_1037 k) ?_
          refine J.aI0 X dL_law_1038 (fun v1038 h1038 => ?_)
          refine J.bind (fun o1039 g1039 => ?_)
          refine J.bd' (fun v1039 S1039 h1039 => ?_)
          refine J.cV (q := (RX6, TX6, 26)) (ci := 5) (As := [.int v1038]) (rest := []) (s2 := [.int v1039]) X ⟨rfl, rfl⟩ (jmcw (fun A hm σ9 hs M => ct_X6_whyNoSlip l hm σ9 n M v1038)) h1039 (fun _ _ => cwV 1 X.1.2.2.2.2 (lw_V q3176 q3177 q3178 q174 q3179) rfl rfl rfl (by decide +kernel) ⟨(Nat.le_of_ble_eq_true rfl), (Nat.le_of_ble_eq_true rfl)⟩) g1039 rfl rfl hl.1 rfl rfl (Nat.le_of_ble_eq_true rfl) dL_law_1039 ?_
          refine J.istore (lv' := [(6, .int v1039), (5, .int v1027), (0, va_rf a0), (1, va_rf x1_23), (2, va_rf x2_23), (3, va_rf x3_23), (4, .int x4_23)]) X.1.1 X.1.2.1 dL_law_1042 hl (by decide) (by first | rfl | simp [va_rf_cat, jcI, jcA, jcJ, jcD, jcF]) (fun ls hl => ?_)
          refine J.pu (fun _ _ _ _ k => W.rload_n X.1.1 X.1.2.1 dL_law_1044 rfl (lv_at hl 4 rfl) k) ?_
          refine J.bind (fun o1045 g1045 => ?_)
          refine J.bind (fun v1045 h1045 => ?_)
          refine J.cV (q := (RX6, TX6, 26)) (ci := 5) (As := []) (rest := []) (s2 := [.int v1045]) X ⟨rfl, rfl⟩ (jmcr (fun A hm σ9 hs M => ct_X6_thrown l hm σ9 n M)) (jrd_of h1045) (fun _ _ => cwV 0 X.1.2.2.2.2 (lw_V q2809 q2810 q2811 q174 q2812) rfl rfl rfl (by decide +kernel) ⟨(Nat.le_of_ble_eq_true rfl), (Nat.le_of_ble_eq_true rfl)⟩) g1045 rfl rfl hl.1 rfl rfl (Nat.le_of_ble_eq_true rfl) dL_law_1045 ?_
          refine J.pu (fun _ _ _ _ k => lv_iload X.1.1 X.1.2.1 dL_law_1048 (lv_at hl 1 rfl) k) ?_
          refine J.br (fun _ _ _ _ ka kb => lv_icmp_eq (tgt := 1055) X.1.1 X.1.2.1 dL_law_1050 (by decide) ka kb) (fun c1050 => ?_) (fun c1050 => ?_)
          · refine J.pu (fun _ _ _ _ k => lv_iload X.1.1 X.1.2.1 dL_law_1055 (lv_at hl 1 rfl) k) ?_
            refine J.br (fun _ _ _ _ ka kb => lv_if_ne (tgt := 1072) X.1.1 X.1.2.1 dL_law_1057 (by decide) kb ka) (fun c1057 => ?_) (fun c1057 => ?_)
            · refine J.pu (fun _ _ _ _ k => W.rload_n X.1.1 X.1.2.1 dL_law_1060 rfl (lv_at hl 5 rfl) k) ?_
              refine J.pu (fun _ _ _ _ k => lv_iconst (v := 0) X.1.1 X.1.2.1 dL_law_1061 (by decide) k) ?_
              refine J.aJ' X dL_law_1062 (fun v1062 h1062 => ?_)
              refine J.pu (fun _ _ _ _ k => lv_iload X.1.1 X.1.2.1 dL_law_1063 (lv_at hl 0 rfl) k) ?_
              refine J.pu (fun _ _ _ _ k => lv_i2l (v := v1039.toInt64) X.1.1 X.1.2.1 dL_law_1065 rfl k) ?_
              refine J.pu (fun _ _ _ _ k => W.lcmp X.1.1 X.1.2.1 dL_law_1066 k) ?_
              refine J.br (fun _ _ _ _ ka kb => lv_if_eq (tgt := 1072) X.1.1 X.1.2.1 dL_law_1067 (by decide) ka kb) (fun c1067 => ?_) (fun c1067 => ?_)
              · refine J.pu (fun _ _ _ _ k => lv_goto (tgt := 2202) X.1.1 X.1.2.1 dL_law_1072 (by decide) k) ?_
                exact j2202 x4_23 S1039 ls (lv_sub hl [2, 3, 4, 5, 6] rfl)
              · refine J.pu (fun _ _ _ _ k => lv_iconst (v := 0) X.1.1 X.1.2.1 dL_law_1070 (by decide) k) ?_
                exact J.zret (vr := fun t : Int32 × jH => jrI t.1) (fin := Prod.snd) (t := t) X hr (by decide) (by rfl) (by rfl) dL_law_1071
            · refine J.pu (fun _ _ _ _ k => lv_goto (tgt := 2202) X.1.1 X.1.2.1 dL_law_1072 (by decide) k) ?_
              exact j2202 x4_23 S1039 ls (lv_sub hl [2, 3, 4, 5, 6] rfl)
          · refine J.pu (fun _ _ _ _ k => lv_iconst (v := 0) X.1.1 X.1.2.1 dL_law_1053 (by decide) k) ?_
            exact J.zret (vr := fun t : Int32 × jH => jrI t.1) (fin := Prod.snd) (t := t) X hr (by decide) (by rfl) (by rfl) dL_law_1054
        refine J.ite (fun c40_18 => ?_) (fun c40_18 => ?_)
        · refine J.pu (fun _ _ _ _ k => lv_tableIn (tgt := 1075) (off := 1035) X.1.1 X.1.2.1 dL_law_40 (by rw [c40_18]; decide) (by rw [c40_18]; decide) (by rw [c40_18]; decide) (by decide) k) ?_
          refine J.pu (fun _ _ _ _ k => W.rload_n X.1.1 X.1.2.1 dL_law_1075 rfl (lv_at hl 1 rfl) k) ?_
          refine J.pu (fun _ _ _ _ k => W.rload_n X.1.1 X.1.2.1 dL_law_1076 rfl (lv_at hl 0 rfl) k) ?_
          refine J.pu (fun _ _ _ _ k => lv_iload X.1.1 X.1.2.1 dL_law_1077 (lv_at hl 4 rfl) k) ?_
          refine J.pu (fun _ _ _ _ k => lv_iconst (v := 1) X.1.1 X.1.2.1 dL_law_1079 (by decide) k) ?_
          refine J.pu (fun _ _ _ _ k => lv_iadd X.1.1 X.1.2.1 dL_law_1080 k) ?_
          refine J.aI0 X dL_law_1081 (fun v1081 h1081 => ?_)
          refine J.pu (fun _ _ _ _ k => W.rload_n X.1.1 X.1.2.1 dL_law_1082 rfl (lv_at hl 3 rfl) k) ?_
          refine J.bd' (fun v1083 S1083 h1083 => ?_)
          refine J.cSW (hh := [(0, 9, 12, 22)]) (As := [va_rf x1_23, .int v1081, va_rf x3_23]) (rest := []) (s2 := [.int v1083]) X ⟨rfl, rfl⟩ (ct_X0_leavesIn l hfl G n B23 x1_23 v1081 x3_23) h1083 (fun _ _ => vx_cwSW 3 X.1.2.2.2.2 (lw_SW q2556 q2557 q137 q2558) rfl rfl rfl (by decide +kernel) ⟨(Nat.le_of_ble_eq_true rfl), (Nat.le_of_ble_eq_true rfl)⟩) rfl hl.1 rfl rfl (Nat.le_of_ble_eq_true rfl) dL_law_1083 ?_
          refine J.istore (lv' := [(5, .int v1083), (0, va_rf a0), (1, va_rf x1_23), (2, va_rf x2_23), (3, va_rf x3_23), (4, .int x4_23)]) X.1.1 X.1.2.1 dL_law_1086 hl (by decide) (by first | rfl | simp [va_rf_cat, jcI, jcA, jcJ, jcD, jcF]) (fun ls hl => ?_)
          refine J.pu (fun _ _ _ _ k => W.rload_n X.1.1 X.1.2.1 dL_law_1088 rfl (lv_at hl 3 rfl) k) ?_
          refine J.pu (fun _ _ _ _ k => W.rload_n X.1.1 X.1.2.1 dL_law_1089 rfl (lv_at hl 1 rfl) k) ?_
          refine J.pu (fun _ _ _ _ k => lv_iload X.1.1 X.1.2.1 dL_law_1090 (lv_at hl 5 rfl) k) ?_
          refine J.pu (fun _ _ _ _ k => lv_iconst (v := 1) X.1.1 X.1.2.1 dL_law_1092 (by decide) k) ?_
          refine J.pu (fun _ _ _ _ k => lv_iadd X.1.1 X.1.2.1 dL_law_1093 k) ?_
          refine J.aI0 X dL_law_1094 (fun v1094 h1094 => ?_)
          refine J.bind (fun o1095 g1095 => ?_)
          refine J.bd' (fun v1095 S1095 h1095 => ?_)
          refine J.cV (q := (RX6, TX6, 26)) (ci := 5) (As := [.int v1094]) (rest := []) (s2 := [.int v1095]) X ⟨rfl, rfl⟩ (jmcw (fun A hm σ9 hs M => ct_X6_leavesIn l hm σ9 n M v1094)) h1095 (fun _ _ => cwV 1 X.1.2.2.2.2 (lw_V q3180 q3181 q3182 q174 q3183) rfl rfl rfl (by decide +kernel) ⟨(Nat.le_of_ble_eq_true rfl), (Nat.le_of_ble_eq_true rfl)⟩) g1095 rfl rfl hl.1 rfl rfl (Nat.le_of_ble_eq_true rfl) dL_law_1095 ?_
          refine J.istore (lv' := [(6, .int v1095), (5, .int v1083), (0, va_rf a0), (1, va_rf x1_23), (2, va_rf x2_23), (3, va_rf x3_23), (4, .int x4_23)]) X.1.1 X.1.2.1 dL_law_1098 hl (by decide) (by first | rfl | simp [va_rf_cat, jcI, jcA, jcJ, jcD, jcF]) (fun ls hl => ?_)
          refine J.pu (fun _ _ _ _ k => W.rload_n X.1.1 X.1.2.1 dL_law_1100 rfl (lv_at hl 4 rfl) k) ?_
          refine J.bind (fun o1101 g1101 => ?_)
          refine J.bind (fun v1101 h1101 => ?_)
          refine J.cV (q := (RX6, TX6, 26)) (ci := 5) (As := []) (rest := []) (s2 := [.int v1101]) X ⟨rfl, rfl⟩ (jmcr (fun A hm σ9 hs M => ct_X6_thrown l hm σ9 n M)) (jrd_of h1101) (fun _ _ => cwV 0 X.1.2.2.2.2 (lw_V q2809 q2810 q2811 q174 q2812) rfl rfl rfl (by decide +kernel) ⟨(Nat.le_of_ble_eq_true rfl), (Nat.le_of_ble_eq_true rfl)⟩) g1101 rfl rfl hl.1 rfl rfl (Nat.le_of_ble_eq_true rfl) dL_law_1101 ?_
          refine J.pu (fun _ _ _ _ k => lv_iload X.1.1 X.1.2.1 dL_law_1104 (lv_at hl 1 rfl) k) ?_
          refine J.br (fun _ _ _ _ ka kb => lv_icmp_eq (tgt := 1111) X.1.1 X.1.2.1 dL_law_1106 (by decide) ka kb) (fun c1106 => ?_) (fun c1106 => ?_)
          · refine J.pu (fun _ _ _ _ k => lv_iload X.1.1 X.1.2.1 dL_law_1111 (lv_at hl 1 rfl) k) ?_
            refine J.br (fun _ _ _ _ ka kb => lv_if_ne (tgt := 1128) X.1.1 X.1.2.1 dL_law_1113 (by decide) kb ka) (fun c1113 => ?_) (fun c1113 => ?_)
            · refine J.pu (fun _ _ _ _ k => W.rload_n X.1.1 X.1.2.1 dL_law_1116 rfl (lv_at hl 5 rfl) k) ?_
              refine J.pu (fun _ _ _ _ k => lv_iconst (v := 0) X.1.1 X.1.2.1 dL_law_1117 (by decide) k) ?_
              refine J.aJ' X dL_law_1118 (fun v1118 h1118 => ?_)
              refine J.pu (fun _ _ _ _ k => lv_iload X.1.1 X.1.2.1 dL_law_1119 (lv_at hl 0 rfl) k) ?_
              refine J.pu (fun _ _ _ _ k => lv_i2l (v := v1095.toInt64) X.1.1 X.1.2.1 dL_law_1121 rfl k) ?_
              refine J.pu (fun _ _ _ _ k => W.lcmp X.1.1 X.1.2.1 dL_law_1122 k) ?_
              refine J.br (fun _ _ _ _ ka kb => lv_if_eq (tgt := 1128) X.1.1 X.1.2.1 dL_law_1123 (by decide) ka kb) (fun c1123 => ?_) (fun c1123 => ?_)
              · refine J.pu (fun _ _ _ _ k => lv_goto (tgt := 2202) X.1.1 X.1.2.1 dL_law_1128 (by decide) k) ?_
                exact j2202 x4_23 S1095 ls (lv_sub hl [2, 3, 4, 5, 6] rfl)
              · refine J.pu (fun _ _ _ _ k => lv_iconst (v := 0) X.1.1 X.1.2.1 dL_law_1126 (by decide) k) ?_
                exact J.zret (vr := fun t : Int32 × jH => jrI t.1) (fin := Prod.snd) (t := t) X hr (by decide) (by rfl) (by rfl) dL_law_1127
            · refine J.pu (fun _ _ _ _ k => lv_goto (tgt := 2202) X.1.1 X.1.2.1 dL_law_1128 (by decide) k) ?_
              exact j2202 x4_23 S1095 ls (lv_sub hl [2, 3, 4, 5, 6] rfl)
          · refine J.pu (fun _ _ _ _ k => lv_iconst (v := 0) X.1.1 X.1.2.1 dL_law_1109 (by decide) k) ?_
            exact J.zret (vr := fun t : Int32 × jH => jrI t.1) (fin := Prod.snd) (t := t) X hr (by decide) (by rfl) (by rfl) dL_law_1110
        refine J.ite (fun c40_19 => ?_) (fun c40_19 => ?_)
        · refine J.pu (fun _ _ _ _ k => lv_tableIn (tgt := 1131) (off := 1091) X.1.1 X.1.2.1 dL_law_40 (by rw [c40_19]; decide) (by rw [c40_19]; decide) (by rw [c40_19]; decide) (by decide) k) ?_
          refine J.pu (fun _ _ _ _ k => W.rload_n X.1.1 X.1.2.1 dL_law_1131 rfl (lv_at hl 1 rfl) k) ?_
          refine J.pu (fun _ _ _ _ k => W.rload_n X.1.1 X.1.2.1 dL_law_1132 rfl (lv_at hl 0 rfl) k) ?_
          refine J.pu (fun _ _ _ _ k => lv_iload X.1.1 X.1.2.1 dL_law_1133 (lv_at hl 4 rfl) k) ?_
          refine J.pu (fun _ _ _ _ k => lv_iconst (v := 1) X.1.1 X.1.2.1 dL_law_1135 (by decide) k) ?_
          refine J.pu (fun _ _ _ _ k => lv_iadd X.1.1 X.1.2.1 dL_law_1136 k) ?_
          refine J.aI0 X dL_law_1137 (fun v1137 h1137 => ?_)
          refine J.pu (fun _ _ _ _ k => W.rload_n X.1.1 X.1.2.1 dL_law_1138 rfl (lv_at hl 0 rfl) k) ?_
          refine J.pu (fun _ _ _ _ k => lv_iload X.1.1 X.1.2.1 dL_law_1139 (lv_at hl 4 rfl) k) ?_
          refine J.pu (fun _ _ _ _ k => lv_iconst (v := 2) X.1.1 X.1.2.1 dL_law_1141 (by decide) k) ?_
          refine J.pu (fun _ _ _ _ k => lv_iadd X.1.1 X.1.2.1 dL_law_1142 k) ?_
          refine J.aI0 X dL_law_1143 (fun v1143 h1143 => ?_)
          refine J.pu (fun _ _ _ _ k => W.rload_n X.1.1 X.1.2.1 dL_law_1144 rfl (lv_at hl 3 rfl) k) ?_
          refine J.bd' (fun v1145 S1145 h1145 => ?_)
          refine J.cSW (hh := [(0, 10, 13, 22), (0, 10, 17, 13)]) (As := [va_rf x1_23, .int v1137, .int v1143, va_rf x3_23]) (rest := []) (s2 := [.int v1145]) X ⟨rfl, rfl⟩ (ct_X0_endsAs l hfl G n B23 x1_23 v1137 v1143 x3_23) h1145 (fun _ _ => vx_cwSW 4 X.1.2.2.2.2 (lw_SW q2563 q2564 q137 q2565) rfl rfl rfl (by decide +kernel) ⟨(Nat.le_of_ble_eq_true rfl), (Nat.le_of_ble_eq_true rfl)⟩) rfl hl.1 rfl rfl (Nat.le_of_ble_eq_true rfl) dL_law_1145 ?_
          refine J.istore (lv' := [(5, .int v1145), (0, va_rf a0), (1, va_rf x1_23), (2, va_rf x2_23), (3, va_rf x3_23), (4, .int x4_23)]) X.1.1 X.1.2.1 dL_law_1148 hl (by decide) (by first | rfl | simp [va_rf_cat, jcI, jcA, jcJ, jcD, jcF]) (fun ls hl => ?_)
          refine J.pu (fun _ _ _ _ k => W.rload_n X.1.1 X.1.2.1 dL_law_1150 rfl (lv_at hl 3 rfl) k) ?_
          refine J.pu (fun _ _ _ _ k => W.rload_n X.1.1 X.1.2.1 dL_law_1151 rfl (lv_at hl 1 rfl) k) ?_
          refine J.pu (fun _ _ _ _ k => lv_iload X.1.1 X.1.2.1 dL_law_1152 (lv_at hl 5 rfl) k) ?_
          refine J.pu (fun _ _ _ _ k => lv_iconst (v := 1) X.1.1 X.1.2.1 dL_law_1154 (by decide) k) ?_
          refine J.pu (fun _ _ _ _ k => lv_iadd X.1.1 X.1.2.1 dL_law_1155 k) ?_
          refine J.aI0 X dL_law_1156 (fun v1156 h1156 => ?_)
          refine J.pu (fun _ _ _ _ k => W.rload_n X.1.1 X.1.2.1 dL_law_1157 rfl (lv_at hl 1 rfl) k) ?_
          refine J.pu (fun _ _ _ _ k => lv_iload X.1.1 X.1.2.1 dL_law_1158 (lv_at hl 5 rfl) k) ?_
          refine J.pu (fun _ _ _ _ k => lv_iconst (v := 2) X.1.1 X.1.2.1 dL_law_1160 (by decide) k) ?_
          refine J.pu (fun _ _ _ _ k => lv_iadd X.1.1 X.1.2.1 dL_law_1161 k) ?_
          refine J.aI0 X dL_law_1162 (fun v1162 h1162 => ?_)
          refine J.bind (fun o1163 g1163 => ?_)
          refine J.bd' (fun v1163 S1163 h1163 => ?_)
          refine J.cV (q := (RX6, TX6, 26)) (ci := 5) (As := [.int v1156, .int v1162]) (rest := []) (s2 := [.int v1163]) X ⟨rfl, rfl⟩ (jmcw (fun A hm σ9 hs M => ct_X6_endsAs l hm σ9 n M v1156 v1162)) h1163 (fun _ _ => cwV 2 X.1.2.2.2.2 (lw_V q3192 q3193 q3194 q174 q3195) rfl rfl rfl (by decide +kernel) ⟨(Nat.le_of_ble_eq_true rfl), (Nat.le_of_ble_eq_true rfl)⟩) g1163 rfl rfl hl.1 rfl rfl (Nat.le_of_ble_eq_true rfl) dL_law_1163 ?_
          refine J.istore (lv' := [(6, .int v1163), (5, .int v1145), (0, va_rf a0), (1, va_rf x1_23), (2, va_rf x2_23), (3, va_rf x3_23), (4, .int x4_23)]) X.1.1 X.1.2.1 dL_law_1166 hl (by decide) (by first | rfl | simp [va_rf_cat, jcI, jcA, jcJ, jcD, jcF]) (fun ls hl => ?_)
          refine J.pu (fun _ _ _ _ k => W.rload_n X.1.1 X.1.2.1 dL_law_1168 rfl (lv_at hl 4 rfl) k) ?_
          refine J.bind (fun o1169 g1169 => ?_)
          refine J.bind (fun v1169 h1169 => ?_)
          refine J.cV (q := (RX6, TX6, 26)) (ci := 5) (As := []) (rest := []) (s2 := [.int v1169]) X ⟨rfl, rfl⟩ (jmcr (fun A hm σ9 hs M => ct_X6_thrown l hm σ9 n M)) (jrd_of h1169) (fun _ _ => cwV 0 X.1.2.2.2.2 (lw_V q2809 q2810 q2811 q174 q2812) rfl rfl rfl (by decide +kernel) ⟨(Nat.le_of_ble_eq_true rfl), (Nat.le_of_ble_eq_true rfl)⟩) g1169 rfl rfl hl.1 rfl rfl (Nat.le_of_ble_eq_true rfl) dL_law_1169 ?_
          refine J.pu (fun _ _ _ _ k => lv_iload X.1.1 X.1.2.1 dL_law_1172 (lv_at hl 1 rfl) k) ?_
          refine J.br (fun _ _ _ _ ka kb => lv_icmp_eq (tgt := 1179) X.1.1 X.1.2.1 dL_law_1174 (by decide) ka kb) (fun c1174 => ?_) (fun c1174 => ?_)
          · refine J.pu (fun _ _ _ _ k => lv_iload X.1.1 X.1.2.1 dL_law_1179 (lv_at hl 1 rfl) k) ?_
            refine J.br (fun _ _ _ _ ka kb => lv_if_ne (tgt := 1196) X.1.1 X.1.2.1 dL_law_1181 (by decide) kb ka) (fun c1181 => ?_) (fun c1181 => ?_)
            · refine J.pu (fun _ _ _ _ k => W.rload_n X.1.1 X.1.2.1 dL_law_1184 rfl (lv_at hl 5 rfl) k) ?_
              refine J.pu (fun _ _ _ _ k => lv_iconst (v := 0) X.1.1 X.1.2.1 dL_law_1185 (by decide) k) ?_
              refine J.aJ' X dL_law_1186 (fun v1186 h1186 => ?_)
              refine J.pu (fun _ _ _ _ k => lv_iload X.1.1 X.1.2.1 dL_law_1187 (lv_at hl 0 rfl) k) ?_
              refine J.pu (fun _ _ _ _ k => lv_i2l (v := v1163.toInt64) X.1.1 X.1.2.1 dL_law_1189 rfl k) ?_
              refine J.pu (fun _ _ _ _ k => W.lcmp X.1.1 X.1.2.1 dL_law_1190 k) ?_
              refine J.br (fun _ _ _ _ ka kb => lv_if_eq (tgt := 1196) X.1.1 X.1.2.1 dL_law_1191 (by decide) ka kb) (fun c1191 => ?_) (fun c1191 => ?_)
              · refine J.pu (fun _ _ _ _ k => lv_goto (tgt := 2202) X.1.1 X.1.2.1 dL_law_1196 (by decide) k) ?_
                exact j2202 x4_23 S1163 ls (lv_sub hl [2, 3, 4, 5, 6] rfl)
              · refine J.pu (fun _ _ _ _ k => lv_iconst (v := 0) X.1.1 X.1.2.1 dL_law_1194 (by decide) k) ?_
                exact J.zret (vr := fun t : Int32 × jH => jrI t.1) (fin := Prod.snd) (t := t) X hr (by decide) (by rfl) (by rfl) dL_law_1195
            · refine J.pu (fun _ _ _ _ k => lv_goto (tgt := 2202) X.1.1 X.1.2.1 dL_law_1196 (by decide) k) ?_
              exact j2202 x4_23 S1163 ls (lv_sub hl [2, 3, 4, 5, 6] rfl)
          · refine J.pu (fun _ _ _ _ k => lv_iconst (v := 0) X.1.1 X.1.2.1 dL_law_1177 (by decide) k) ?_
            exact J.zret (vr := fun t : Int32 × jH => jrI t.1) (fin := Prod.snd) (t := t) X hr (by decide) (by rfl) (by rfl) dL_law_1178
        refine J.ite (fun c40_20 => ?_) (fun c40_20 => ?_)
        · refine J.pu (fun _ _ _ _ k => lv_tableIn (tgt := 1199) (off := 1159) X.1.1 X.1.2.1 dL_law_40 (by rw [c40_20]; decide) (by rw [c40_20]; decide) (by rw [c40_20]; decide) (by decide) k) ?_
          refine J.pu (fun _ _ _ _ k => W.rload_n X.1.1 X.1.2.1 dL_law_1199 rfl (lv_at hl 1 rfl) k) ?_
          refine J.pu (fun _ _ _ _ k => W.rload_n X.1.1 X.1.2.1 dL_law_1200 rfl (lv_at hl 0 rfl) k) ?_
          refine J.pu (fun _ _ _ _ k => lv_iload X.1.1 X.1.2.1 dL_law_1201 (lv_at hl 4 rfl) k) ?_
          refine J.pu (fun _ _ _ _ k => lv_iconst (v := 1) X.1.1 X.1.2.1 dL_law_1203 (by decide) k) ?_
          refine J.pu (fun _ _ _ _ k => lv_iadd X.1.1 X.1.2.1 dL_law_1204 k) ?_
          refine J.aI0 X dL_law_1205 (fun v1205 h1205 => ?_)
          refine J.pu (fun _ _ _ _ k => W.rload_n X.1.1 X.1.2.1 dL_law_1206 rfl (lv_at hl 0 rfl) k) ?_
          refine J.pu (fun _ _ _ _ k => lv_iload X.1.1 X.1.2.1 dL_law_1207 (lv_at hl 4 rfl) k) ?_
          refine J.pu (fun _ _ _ _ k => lv_iconst (v := 2) X.1.1 X.1.2.1 dL_law_1209 (by decide) k) ?_
          refine J.pu (fun _ _ _ _ k => lv_iadd X.1.1 X.1.2.1 dL_law_1210 k) ?_
          refine J.aI0 X dL_law_1211 (fun v1211 h1211 => ?_)
          refine J.pu (fun _ _ _ _ k => W.rload_n X.1.1 X.1.2.1 dL_law_1212 rfl (lv_at hl 3 rfl) k) ?_
          refine J.bd' (fun v1213 S1213 h1213 => ?_)
          refine J.cSW (hh := [(0, 10, 13, 22), (0, 10, 17, 13)]) (As := [va_rf x1_23, .int v1205, .int v1211, va_rf x3_23]) (rest := []) (s2 := [.int v1213]) X ⟨rfl, rfl⟩ (ct_X0_heldIn l hfl G n B23 x1_23 v1205 v1211 x3_23) h1213 (fun _ _ => vx_cwSW 4 X.1.2.2.2.2 (lw_SW q2578 q2579 q137 q2580) rfl rfl rfl (by decide +kernel) ⟨(Nat.le_of_ble_eq_true rfl), (Nat.le_of_ble_eq_true rfl)⟩) rfl hl.1 rfl rfl (Nat.le_of_ble_eq_true rfl) dL_law_1213 ?_
          refine J.istore (lv' := [(5, .int v1213), (0, va_rf a0), (1, va_rf x1_23), (2, va_rf x2_23), (3, va_rf x3_23), (4, .int x4_23)]) X.1.1 X.1.2.1 dL_law_1216 hl (by decide) (by first | rfl | simp [va_rf_cat, jcI, jcA, jcJ, jcD, jcF]) (fun ls hl => ?_)
          refine J.pu (fun _ _ _ _ k => W.rload_n X.1.1 X.1.2.1 dL_law_1218 rfl (lv_at hl 3 rfl) k) ?_
          refine J.pu (fun _ _ _ _ k => W.rload_n X.1.1 X.1.2.1 dL_law_1219 rfl (lv_at hl 1 rfl) k) ?_
          refine J.pu (fun _ _ _ _ k => lv_iload X.1.1 X.1.2.1 dL_law_1220 (lv_at hl 5 rfl) k) ?_
          refine J.pu (fun _ _ _ _ k => lv_iconst (v := 1) X.1.1 X.1.2.1 dL_law_1222 (by decide) k) ?_
          refine J.pu (fun _ _ _ _ k => lv_iadd X.1.1 X.1.2.1 dL_law_1223 k) ?_
          refine J.aI0 X dL_law_1224 (fun v1224 h1224 => ?_)
          refine J.pu (fun _ _ _ _ k => W.rload_n X.1.1 X.1.2.1 dL_law_1225 rfl (lv_at hl 1 rfl) k) ?_
          refine J.pu (fun _ _ _ _ k => lv_iload X.1.1 X.1.2.1 dL_law_1226 (lv_at hl 5 rfl) k) ?_
          refine J.pu (fun _ _ _ _ k => lv_iconst (v := 2) X.1.1 X.1.2.1 dL_law_1228 (by decide) k) ?_
          refine J.pu (fun _ _ _ _ k => lv_iadd X.1.1 X.1.2.1 dL_law_1229 k) ?_
          refine J.aI0 X dL_law_1230 (fun v1230 h1230 => ?_)
          refine J.bind (fun o1231 g1231 => ?_)
          refine J.bd' (fun v1231 S1231 h1231 => ?_)
          refine J.cV (q := (RX6, TX6, 26)) (ci := 5) (As := [.int v1224, .int v1230]) (rest := []) (s2 := [.int v1231]) X ⟨rfl, rfl⟩ (jmcw (fun A hm σ9 hs M => ct_X6_heldIn l hm σ9 n M v1224 v1230)) h1231 (fun _ _ => cwV 2 X.1.2.2.2.2 (lw_V q3204 q3205 q3206 q174 q3207) rfl rfl rfl (by decide +kernel) ⟨(Nat.le_of_ble_eq_true rfl), (Nat.le_of_ble_eq_true rfl)⟩) g1231 rfl rfl hl.1 rfl rfl (Nat.le_of_ble_eq_true rfl) dL_law_1231 ?_
          refine J.istore (lv' := [(6, .int v1231), (5, .int v1213), (0, va_rf a0), (1, va_rf x1_23), (2, va_rf x2_23), (3, va_rf x3_23), (4, .int x4_23)]) X.1.1 X.1.2.1 dL_law_1234 hl (by decide) (by first | rfl | simp [va_rf_cat, jcI, jcA, jcJ, jcD, jcF]) (fun ls hl => ?_)
          refine J.pu (fun _ _ _ _ k => W.rload_n X.1.1 X.1.2.1 dL_law_1236 rfl (lv_at hl 4 rfl) k) ?_
          refine J.bind (fun o1237 g1237 => ?_)
          refine J.bind (fun v1237 h1237 => ?_)
          refine J.cV (q := (RX6, TX6, 26)) (ci := 5) (As := []) (rest := []) (s2 := [.int v1237]) X ⟨rfl, rfl⟩ (jmcr (fun A hm σ9 hs M => ct_X6_thrown l hm σ9 n M)) (jrd_of h1237) (fun _ _ => cwV 0 X.1.2.2.2.2 (lw_V q2809 q2810 q2811 q174 q2812) rfl rfl rfl (by decide +kernel) ⟨(Nat.le_of_ble_eq_true rfl), (Nat.le_of_ble_eq_true rfl)⟩) g1237 rfl rfl hl.1 rfl rfl (Nat.le_of_ble_eq_true rfl) dL_law_1237 ?_
          refine J.pu (fun _ _ _ _ k => lv_iload X.1.1 X.1.2.1 dL_law_1240 (lv_at hl 1 rfl) k) ?_
          refine J.br (fun _ _ _ _ ka kb => lv_icmp_eq (tgt := 1247) X.1.1 X.1.2.1 dL_law_1242 (by decide) ka kb) (fun c1242 => ?_) (fun c1242 => ?_)
          · refine J.pu (fun _ _ _ _ k => lv_iload X.1.1 X.1.2.1 dL_law_1247 (lv_at hl 1 rfl) k) ?_
            refine J.br (fun _ _ _ _ ka kb => lv_if_ne (tgt := 1264) X.1.1 X.1.2.1 dL_law_1249 (by decide) kb ka) (fun c1249 => ?_) (fun c1249 => ?_)
            · refine J.pu (fun _ _ _ _ k => W.rload_n X.1.1 X.1.2.1 dL_law_1252 rfl (lv_at hl 5 rfl) k) ?_
              refine J.pu (fun _ _ _ _ k => lv_iconst (v := 0) X.1.1 X.1.2.1 dL_law_1253 (by decide) k) ?_
              refine J.aJ' X dL_law_1254 (fun v1254 h1254 => ?_)
              refine J.pu (fun _ _ _ _ k => lv_iload X.1.1 X.1.2.1 dL_law_1255 (lv_at hl 0 rfl) k) ?_
              refine J.pu (fun _ _ _ _ k => lv_i2l (v := v1231.toInt64) X.1.1 X.1.2.1 dL_law_1257 rfl k) ?_
              refine J.pu (fun _ _ _ _ k => W.lcmp X.1.1 X.1.2.1 dL_law_1258 k) ?_
              refine J.br (fun _ _ _ _ ka kb => lv_if_eq (tgt := 1264) X.1.1 X.1.2.1 dL_law_1259 (by decide) ka kb) (fun c1259 => ?_) (fun c1259 => ?_)
              · refine J.pu (fun _ _ _ _ k => lv_goto (tgt := 2202) X.1.1 X.1.2.1 dL_law_1264 (by decide) k) ?_
                exact j2202 x4_23 S1231 ls (lv_sub hl [2, 3, 4, 5, 6] rfl)
              · refine J.pu (fun _ _ _ _ k => lv_iconst (v := 0) X.1.1 X.1.2.1 dL_law_1262 (by decide) k) ?_
                exact J.zret (vr := fun t : Int32 × jH => jrI t.1) (fin := Prod.snd) (t := t) X hr (by decide) (by rfl) (by rfl) dL_law_1263
            · refine J.pu (fun _ _ _ _ k => lv_goto (tgt := 2202) X.1.1 X.1.2.1 dL_law_1264 (by decide) k) ?_
              exact j2202 x4_23 S1231 ls (lv_sub hl [2, 3, 4, 5, 6] rfl)
          · refine J.pu (fun _ _ _ _ k => lv_iconst (v := 0) X.1.1 X.1.2.1 dL_law_1245 (by decide) k) ?_
            exact J.zret (vr := fun t : Int32 × jH => jrI t.1) (fin := Prod.snd) (t := t) X hr (by decide) (by rfl) (by rfl) dL_law_1246
        refine J.ite (fun c40_21 => ?_) (fun c40_21 => ?_)
        · refine J.pu (fun _ _ _ _ k => lv_tableIn (tgt := 1267) (off := 1227) X.1.1 X.1.2.1 dL_law_40 (by rw [c40_21]; decide) (by rw [c40_21]; decide) (by rw [c40_21]; decide) (by decide) k) ?_
          refine J.pu (fun _ _ _ _ k => W.rload_n X.1.1 X.1.2.1 dL_law_1267 rfl (lv_at hl 1 rfl) k) ?_
          refine J.pu (fun _ _ _ _ k => W.rload_n X.1.1 X.1.2.1 dL_law_1268 rfl (lv_at hl 0 rfl) k) ?_
          refine J.pu (fun _ _ _ _ k => lv_iload X.1.1 X.1.2.1 dL_law_1269 (lv_at hl 4 rfl) k) ?_
          refine J.pu (fun _ _ _ _ k => lv_iconst (v := 1) X.1.1 X.1.2.1 dL_law_1271 (by decide) k) ?_
          refine J.pu (fun _ _ _ _ k => lv_iadd X.1.1 X.1.2.1 dL_law_1272 k) ?_
          refine J.aI0 X dL_law_1273 (fun v1273 h1273 => ?_)
          refine J.pu (fun _ _ _ _ k => W.rload_n X.1.1 X.1.2.1 dL_law_1274 rfl (lv_at hl 0 rfl) k) ?_
          refine J.pu (fun _ _ _ _ k => lv_iload X.1.1 X.1.2.1 dL_law_1275 (lv_at hl 4 rfl) k) ?_
          refine J.pu (fun _ _ _ _ k => lv_iconst (v := 2) X.1.1 X.1.2.1 dL_law_1277 (by decide) k) ?_
          refine J.pu (fun _ _ _ _ k => lv_iadd X.1.1 X.1.2.1 dL_law_1278 k) ?_
          refine J.aI0 X dL_law_1279 (fun v1279 h1279 => ?_)
          refine J.pu (fun _ _ _ _ k => W.rload_n X.1.1 X.1.2.1 dL_law_1280 rfl (lv_at hl 3 rfl) k) ?_
          refine J.bd' (fun v1281 S1281 h1281 => ?_)
          refine J.cSW (hh := [(0, 10, 13, 13)]) (As := [va_rf x1_23, .int v1273, .int v1279, va_rf x3_23]) (rest := []) (s2 := [.int v1281]) X ⟨rfl, rfl⟩ (ct_X0_growsIn l hfl G n B23 x1_23 v1273 v1279 x3_23) h1281 (fun _ _ => vx_cwSW 4 X.1.2.2.2.2 (lw_SW q2585 q2586 q137 q2587) rfl rfl rfl (by decide +kernel) ⟨(Nat.le_of_ble_eq_true rfl), (Nat.le_of_ble_eq_true rfl)⟩) rfl hl.1 rfl rfl (Nat.le_of_ble_eq_true rfl) dL_law_1281 ?_
          refine J.istore (lv' := [(5, .int v1281), (0, va_rf a0), (1, va_rf x1_23), (2, va_rf x2_23), (3, va_rf x3_23), (4, .int x4_23)]) X.1.1 X.1.2.1 dL_law_1284 hl (by decide) (by first | rfl | simp [va_rf_cat, jcI, jcA, jcJ, jcD, jcF]) (fun ls hl => ?_)
          refine J.pu (fun _ _ _ _ k => W.rload_n X.1.1 X.1.2.1 dL_law_1286 rfl (lv_at hl 3 rfl) k) ?_
          refine J.pu (fun _ _ _ _ k => W.rload_n X.1.1 X.1.2.1 dL_law_1287 rfl (lv_at hl 1 rfl) k) ?_
          refine J.pu (fun _ _ _ _ k => lv_iload X.1.1 X.1.2.1 dL_law_1288 (lv_at hl 5 rfl) k) ?_
          refine J.pu (fun _ _ _ _ k => lv_iconst (v := 1) X.1.1 X.1.2.1 dL_law_1290 (by decide) k) ?_
          refine J.pu (fun _ _ _ _ k => lv_iadd X.1.1 X.1.2.1 dL_law_1291 k) ?_
          refine J.aI0 X dL_law_1292 (fun v1292 h1292 => ?_)
          refine J.pu (fun _ _ _ _ k => W.rload_n X.1.1 X.1.2.1 dL_law_1293 rfl (lv_at hl 1 rfl) k) ?_
          refine J.pu (fun _ _ _ _ k => lv_iload X.1.1 X.1.2.1 dL_law_1294 (lv_at hl 5 rfl) k) ?_
          refine J.pu (fun _ _ _ _ k => lv_iconst (v := 2) X.1.1 X.1.2.1 dL_law_1296 (by decide) k) ?_
          refine J.pu (fun _ _ _ _ k => lv_iadd X.1.1 X.1.2.1 dL_law_1297 k) ?_
          refine J.aI0 X dL_law_1298 (fun v1298 h1298 => ?_)
          refine J.bind (fun o1299 g1299 => ?_)
          refine J.bd' (fun v1299 S1299 h1299 => ?_)
          refine J.cV (q := (RX6, TX6, 26)) (ci := 5) (As := [.int v1292, .int v1298]) (rest := []) (s2 := [.int v1299]) X ⟨rfl, rfl⟩ (jmcw (fun A hm σ9 hs M => ct_X6_growsIn l hm σ9 n M v1292 v1298)) h1299 (fun _ _ => cwV 2 X.1.2.2.2.2 (lw_V q3208 q3209 q3210 q174 q3211) rfl rfl rfl (by decide +kernel) ⟨(Nat.le_of_ble_eq_true rfl), (Nat.le_of_ble_eq_true rfl)⟩) g1299 rfl rfl hl.1 rfl rfl (Nat.le_of_ble_eq_true rfl) dL_law_1299 ?_
          refine J.istore (lv' := [(6, .int v1299), (5, .int v1281), (0, va_rf a0), (1, va_rf x1_23), (2, va_rf x2_23), (3, va_rf x3_23), (4, .int x4_23)]) X.1.1 X.1.2.1 dL_law_1302 hl (by decide) (by first | rfl | simp [va_rf_cat, jcI, jcA, jcJ, jcD, jcF]) (fun ls hl => ?_)
          refine J.pu (fun _ _ _ _ k => W.rload_n X.1.1 X.1.2.1 dL_law_1304 rfl (lv_at hl 4 rfl) k) ?_
          refine J.bind (fun o1305 g1305 => ?_)
          refine J.bind (fun v1305 h1305 => ?_)
          refine J.cV (q := (RX6, TX6, 26)) (ci := 5) (As := []) (rest := []) (s2 := [.int v1305]) X ⟨rfl, rfl⟩ (jmcr (fun A hm σ9 hs M => ct_X6_thrown l hm σ9 n M)) (jrd_of h1305) (fun _ _ => cwV 0 X.1.2.2.2.2 (lw_V q2809 q2810 q2811 q174 q2812) rfl rfl rfl (by decide +kernel) ⟨(Nat.le_of_ble_eq_true rfl), (Nat.le_of_ble_eq_true rfl)⟩) g1305 rfl rfl hl.1 rfl rfl (Nat.le_of_ble_eq_true rfl) dL_law_1305 ?_
          refine J.pu (fun _ _ _ _ k => lv_iload X.1.1 X.1.2.1 dL_law_1308 (lv_at hl 1 rfl) k) ?_
          refine J.br (fun _ _ _ _ ka kb => lv_icmp_eq (tgt := 1315) X.1.1 X.1.2.1 dL_law_1310 (by decide) ka kb) (fun c1310 => ?_) (fun c1310 => ?_)
          · refine J.pu (fun _ _ _ _ k => lv_iload X.1.1 X.1.2.1 dL_law_1315 (lv_at hl 1 rfl) k) ?_
            refine J.br (fun _ _ _ _ ka kb => lv_if_ne (tgt := 1332) X.1.1 X.1.2.1 dL_law_1317 (by decide) kb ka) (fun c1317 => ?_) (fun c1317 => ?_)
            · refine J.pu (fun _ _ _ _ k => W.rload_n X.1.1 X.1.2.1 dL_law_1320 rfl (lv_at hl 5 rfl) k) ?_
              refine J.pu (fun _ _ _ _ k => lv_iconst (v := 0) X.1.1 X.1.2.1 dL_law_1321 (by decide) k) ?_
              refine J.aJ' X dL_law_1322 (fun v1322 h1322 => ?_)
              refine J.pu (fun _ _ _ _ k => lv_iload X.1.1 X.1.2.1 dL_law_1323 (lv_at hl 0 rfl) k) ?_
              refine J.pu (fun _ _ _ _ k => lv_i2l (v := v1299.toInt64) X.1.1 X.1.2.1 dL_law_1325 rfl k) ?_
              refine J.pu (fun _ _ _ _ k => W.lcmp X.1.1 X.1.2.1 dL_law_1326 k) ?_
              refine J.br (fun _ _ _ _ ka kb => lv_if_eq (tgt := 1332) X.1.1 X.1.2.1 dL_law_1327 (by decide) ka kb) (fun c1327 => ?_) (fun c1327 => ?_)
              · refine J.pu (fun _ _ _ _ k => lv_goto (tgt := 2202) X.1.1 X.1.2.1 dL_law_1332 (by decide) k) ?_
                exact j2202 x4_23 S1299 ls (lv_sub hl [2, 3, 4, 5, 6] rfl)
              · refine J.pu (fun _ _ _ _ k => lv_iconst (v := 0) X.1.1 X.1.2.1 dL_law_1330 (by decide) k) ?_
                exact J.zret (vr := fun t : Int32 × jH => jrI t.1) (fin := Prod.snd) (t := t) X hr (by decide) (by rfl) (by rfl) dL_law_1331
            · refine J.pu (fun _ _ _ _ k => lv_goto (tgt := 2202) X.1.1 X.1.2.1 dL_law_1332 (by decide) k) ?_
              exact j2202 x4_23 S1299 ls (lv_sub hl [2, 3, 4, 5, 6] rfl)
          · refine J.pu (fun _ _ _ _ k => lv_iconst (v := 0) X.1.1 X.1.2.1 dL_law_1313 (by decide) k) ?_
            exact J.zret (vr := fun t : Int32 × jH => jrI t.1) (fin := Prod.snd) (t := t) X hr (by decide) (by rfl) (by rfl) dL_law_1314
        refine J.ite (fun c40_22 => ?_) (fun c40_22 => ?_)
        · refine J.pu (fun _ _ _ _ k => lv_tableIn (tgt := 1335) (off := 1295) X.1.1 X.1.2.1 dL_law_40 (by rw [c40_22]; decide) (by rw [c40_22]; decide) (by rw [c40_22]; decide) (by decide) k) ?_
          refine J.pu (fun _ _ _ _ k => W.rload_n X.1.1 X.1.2.1 dL_law_1335 rfl (lv_at hl 1 rfl) k) ?_
          refine J.pu (fun _ _ _ _ k => W.rload_n X.1.1 X.1.2.1 dL_law_1336 rfl (lv_at hl 0 rfl) k) ?_
          refine J.pu (fun _ _ _ _ k => lv_iload X.1.1 X.1.2.1 dL_law_1337 (lv_at hl 4 rfl) k) ?_
          refine J.pu (fun _ _ _ _ k => lv_iconst (v := 1) X.1.1 X.1.2.1 dL_law_1339 (by decide) k) ?_
          refine J.pu (fun _ _ _ _ k => lv_iadd X.1.1 X.1.2.1 dL_law_1340 k) ?_
          refine J.aI0 X dL_law_1341 (fun v1341 h1341 => ?_)
          refine J.pu (fun _ _ _ _ k => W.rload_n X.1.1 X.1.2.1 dL_law_1342 rfl (lv_at hl 0 rfl) k) ?_
          refine J.pu (fun _ _ _ _ k => lv_iload X.1.1 X.1.2.1 dL_law_1343 (lv_at hl 4 rfl) k) ?_
          refine J.pu (fun _ _ _ _ k => lv_iconst (v := 2) X.1.1 X.1.2.1 dL_law_1345 (by decide) k) ?_
          refine J.pu (fun _ _ _ _ k => lv_iadd X.1.1 X.1.2.1 dL_law_1346 k) ?_
          refine J.aI0 X dL_law_1347 (fun v1347 h1347 => ?_)
          refine J.pu (fun _ _ _ _ k => W.rload_n X.1.1 X.1.2.1 dL_law_1348 rfl (lv_at hl 3 rfl) k) ?_
          refine J.bd' (fun v1349 S1349 h1349 => ?_)
          refine J.cSW (hh := [(0, 10, 13, 22), (0, 10, 17, 13)]) (As := [va_rf x1_23, .int v1341, .int v1347, va_rf x3_23]) (rest := []) (s2 := [.int v1349]) X ⟨rfl, rfl⟩ (ct_X0_gainOf l hfl G n B23 x1_23 v1341 v1347 x3_23) h1349 (fun _ _ => vx_cwSW 4 X.1.2.2.2.2 (lw_SW q2592 q2593 q137 q2594) rfl rfl rfl (by decide +kernel) ⟨(Nat.le_of_ble_eq_true rfl), (Nat.le_of_ble_eq_true rfl)⟩) rfl hl.1 rfl rfl (Nat.le_of_ble_eq_true rfl) dL_law_1349 ?_
          refine J.istore (lv' := [(5, .int v1349), (0, va_rf a0), (1, va_rf x1_23), (2, va_rf x2_23), (3, va_rf x3_23), (4, .int x4_23)]) X.1.1 X.1.2.1 dL_law_1352 hl (by decide) (by first | rfl | simp [va_rf_cat, jcI, jcA, jcJ, jcD, jcF]) (fun ls hl => ?_)
          refine J.pu (fun _ _ _ _ k => W.rload_n X.1.1 X.1.2.1 dL_law_1354 rfl (lv_at hl 3 rfl) k) ?_
          refine J.pu (fun _ _ _ _ k => W.rload_n X.1.1 X.1.2.1 dL_law_1355 rfl (lv_at hl 1 rfl) k) ?_
          refine J.pu (fun _ _ _ _ k => lv_iload X.1.1 X.1.2.1 dL_law_1356 (lv_at hl 5 rfl) k) ?_
          refine J.pu (fun _ _ _ _ k => lv_iconst (v := 1) X.1.1 X.1.2.1 dL_law_1358 (by decide) k) ?_
          refine J.pu (fun _ _ _ _ k => lv_iadd X.1.1 X.1.2.1 dL_law_1359 k) ?_
          refine J.aI0 X dL_law_1360 (fun v1360 h1360 => ?_)
          refine J.pu (fun _ _ _ _ k => W.rload_n X.1.1 X.1.2.1 dL_law_1361 rfl (lv_at hl 1 rfl) k) ?_
          refine J.pu (fun _ _ _ _ k => lv_iload X.1.1 X.1.2.1 dL_law_1362 (lv_at hl 5 rfl) k) ?_
          refine J.pu (fun _ _ _ _ k => lv_iconst (v := 2) X.1.1 X.1.2.1 dL_law_1364 (by decide) k) ?_
          refine J.pu (fun _ _ _ _ k => lv_iadd X.1.1 X.1.2.1 dL_law_1365 k) ?_
          refine J.aI0 X dL_law_1366 (fun v1366 h1366 => ?_)
          refine J.bind (fun o1367 g1367 => ?_)
          refine J.bd' (fun v1367 S1367 h1367 => ?_)
          refine J.cV (q := (RX6, TX6, 26)) (ci := 5) (As := [.int v1360, .int v1366]) (rest := []) (s2 := [.int v1367]) X ⟨rfl, rfl⟩ (jmcw (fun A hm σ9 hs M => ct_X6_gainOf l hm σ9 n M v1360 v1366)) h1367 (fun _ _ => cwV 2 X.1.2.2.2.2 (lw_V q3216 q3217 q3218 q174 q3219) rfl rfl rfl (by decide +kernel) ⟨(Nat.le_of_ble_eq_true rfl), (Nat.le_of_ble_eq_true rfl)⟩) g1367 rfl rfl hl.1 rfl rfl (Nat.le_of_ble_eq_true rfl) dL_law_1367 ?_
          refine J.istore (lv' := [(6, .int v1367), (5, .int v1349), (0, va_rf a0), (1, va_rf x1_23), (2, va_rf x2_23), (3, va_rf x3_23), (4, .int x4_23)]) X.1.1 X.1.2.1 dL_law_1370 hl (by decide) (by first | rfl | simp [va_rf_cat, jcI, jcA, jcJ, jcD, jcF]) (fun ls hl => ?_)
          refine J.pu (fun _ _ _ _ k => W.rload_n X.1.1 X.1.2.1 dL_law_1372 rfl (lv_at hl 4 rfl) k) ?_
          refine J.bind (fun o1373 g1373 => ?_)
          refine J.bind (fun v1373 h1373 => ?_)
          refine J.cV (q := (RX6, TX6, 26)) (ci := 5) (As := []) (rest := []) (s2 := [.int v1373]) X ⟨rfl, rfl⟩ (jmcr (fun A hm σ9 hs M => ct_X6_thrown l hm σ9 n M)) (jrd_of h1373) (fun _ _ => cwV 0 X.1.2.2.2.2 (lw_V q2809 q2810 q2811 q174 q2812) rfl rfl rfl (by decide +kernel) ⟨(Nat.le_of_ble_eq_true rfl), (Nat.le_of_ble_eq_true rfl)⟩) g1373 rfl rfl hl.1 rfl rfl (Nat.le_of_ble_eq_true rfl) dL_law_1373 ?_
          refine J.pu (fun _ _ _ _ k => lv_iload X.1.1 X.1.2.1 dL_law_1376 (lv_at hl 1 rfl) k) ?_
          refine J.br (fun _ _ _ _ ka kb => lv_icmp_eq (tgt := 1383) X.1.1 X.1.2.1 dL_law_1378 (by decide) ka kb) (fun c1378 => ?_) (fun c1378 => ?_)
          · refine J.pu (fun _ _ _ _ k => lv_iload X.1.1 X.1.2.1 dL_law_1383 (lv_at hl 1 rfl) k) ?_
            refine J.br (fun _ _ _ _ ka kb => lv_if_ne (tgt := 1400) X.1.1 X.1.2.1 dL_law_1385 (by decide) kb ka) (fun c1385 => ?_) (fun c1385 => ?_)
            · refine J.pu (fun _ _ _ _ k => W.rload_n X.1.1 X.1.2.1 dL_law_1388 rfl (lv_at hl 5 rfl) k) ?_
              refine J.pu (fun _ _ _ _ k => lv_iconst (v := 0) X.1.1 X.1.2.1 dL_law_1389 (by decide) k) ?_
              refine J.aJ' X dL_law_1390 (fun v1390 h1390 => ?_)
              refine J.pu (fun _ _ _ _ k => lv_iload X.1.1 X.1.2.1 dL_law_1391 (lv_at hl 0 rfl) k) ?_
              refine J.pu (fun _ _ _ _ k => lv_i2l (v := v1367.toInt64) X.1.1 X.1.2.1 dL_law_1393 rfl k) ?_
              refine J.pu (fun _ _ _ _ k => W.lcmp X.1.1 X.1.2.1 dL_law_1394 k) ?_
              refine J.br (fun _ _ _ _ ka kb => lv_if_eq (tgt := 1400) X.1.1 X.1.2.1 dL_law_1395 (by decide) ka kb) (fun c1395 => ?_) (fun c1395 => ?_)
              · refine J.pu (fun _ _ _ _ k => lv_goto (tgt := 2202) X.1.1 X.1.2.1 dL_law_1400 (by decide) k) ?_
                exact j2202 x4_23 S1367 ls (lv_sub hl [2, 3, 4, 5, 6] rfl)
              · refine J.pu (fun _ _ _ _ k => lv_iconst (v := 0) X.1.1 X.1.2.1 dL_law_1398 (by decide) k) ?_
                exact J.zret (vr := fun t : Int32 × jH => jrI t.1) (fin := Prod.snd) (t := t) X hr (by decide) (by rfl) (by rfl) dL_law_1399
            · refine J.pu (fun _ _ _ _ k => lv_goto (tgt := 2202) X.1.1 X.1.2.1 dL_law_1400 (by decide) k) ?_
              exact j2202 x4_23 S1367 ls (lv_sub hl [2, 3, 4, 5, 6] rfl)
          · refine J.pu (fun _ _ _ _ k => lv_iconst (v := 0) X.1.1 X.1.2.1 dL_law_1381 (by decide) k) ?_
            exact J.zret (vr := fun t : Int32 × jH => jrI t.1) (fin := Prod.snd) (t := t) X hr (by decide) (by rfl) (by rfl) dL_law_1382
        refine J.ite (fun c40_23 => ?_) (fun c40_23 => ?_)
        · refine J.pu (fun _ _ _ _ k => lv_tableIn (tgt := 1403) (off := 1363) X.1.1 X.1.2.1 dL_law_40 (by rw [c40_23]; decide) (by rw [c40_23]; decide) (by rw [c40_23]; decide) (by decide) k) ?_
          refine J.pu (fun _ _ _ _ k => W.rload_n X.1.1 X.1.2.1 dL_law_1403 rfl (lv_at hl 1 rfl) k) ?_
          refine J.pu (fun _ _ _ _ k => W.rload_n X.1.1 X.1.2.1 dL_law_1404 rfl (lv_at hl 0 rfl) k) ?_
          refine J.pu (fun _ _ _ _ k => lv_iload X.1.1 X.1.2.1 dL_law_1405 (lv_at hl 4 rfl) k) ?_
          refine J.pu (fun _ _ _ _ k => lv_iconst (v := 1) X.1.1 X.1.2.1 dL_law_1407 (by decide) k) ?_
          refine J.pu (fun _ _ _ _ k => lv_iadd X.1.1 X.1.2.1 dL_law_1408 k) ?_
          refine J.aI0 X dL_law_1409 (fun v1409 h1409 => ?_)
          refine J.pu (fun _ _ _ _ k => W.rload_n X.1.1 X.1.2.1 dL_law_1410 rfl (lv_at hl 3 rfl) k) ?_
          refine J.bd' (fun v1411 S1411 h1411 => ?_)
          refine J.cSW (hh := [(0, 9, 12, 13)]) (As := [va_rf x1_23, .int v1409, va_rf x3_23]) (rest := []) (s2 := [.int v1411]) X ⟨rfl, rfl⟩ (ct_X0_bestEmpty l hfl G n B23 x1_23 v1409 x3_23) h1411 (fun _ _ => vx_cwSW 3 X.1.2.2.2.2 (lw_SW q2605 q2606 q137 q2607) rfl rfl rfl (by decide +kernel) ⟨(Nat.le_of_ble_eq_true rfl), (Nat.le_of_ble_eq_true rfl)⟩) rfl hl.1 rfl rfl (Nat.le_of_ble_eq_true rfl) dL_law_1411 ?_
          refine J.istore (lv' := [(5, .int v1411), (0, va_rf a0), (1, va_rf x1_23), (2, va_rf x2_23), (3, va_rf x3_23), (4, .int x4_23)]) X.1.1 X.1.2.1 dL_law_1414 hl (by decide) (by first | rfl | simp [va_rf_cat, jcI, jcA, jcJ, jcD, jcF]) (fun ls hl => ?_)
          refine J.pu (fun _ _ _ _ k => W.rload_n X.1.1 X.1.2.1 dL_law_1416 rfl (lv_at hl 3 rfl) k) ?_
          refine J.pu (fun _ _ _ _ k => W.rload_n X.1.1 X.1.2.1 dL_law_1417 rfl (lv_at hl 1 rfl) k) ?_
          refine J.pu (fun _ _ _ _ k => lv_iload X.1.1 X.1.2.1 dL_law_1418 (lv_at hl 5 rfl) k) ?_
          refine J.pu (fun _ _ _ _ k => lv_iconst (v := 1) X.1.1 X.1.2.1 dL_law_1420 (by decide) k) ?_
          refine J.pu (fun _ _ _ _ k => lv_iadd X.1.1 X.1.2.1 dL_law_1421 k) ?_
          refine J.aI0 X dL_law_1422 (fun v1422 h1422 => ?_)
          refine J.bind (fun o1423 g1423 => ?_)
          refine J.bd' (fun v1423 S1423 h1423 => ?_)
          refine J.cV (q := (RX6, TX6, 26)) (ci := 5) (As := [.int v1422]) (rest := []) (s2 := [.int v1423]) X ⟨rfl, rfl⟩ (jmcw (fun A hm σ9 hs M => ct_X6_bestEmpty l hm σ9 n M v1422)) h1423 (fun _ _ => cwV 1 X.1.2.2.2.2 (lw_V q3224 q3225 q3226 q174 q3227) rfl rfl rfl (by decide +kernel) ⟨(Nat.le_of_ble_eq_true rfl), (Nat.le_of_ble_eq_true rfl)⟩) g1423 rfl rfl hl.1 rfl rfl (Nat.le_of_ble_eq_true rfl) dL_law_1423 ?_
          refine J.istore (lv' := [(6, .int v1423), (5, .int v1411), (0, va_rf a0), (1, va_rf x1_23), (2, va_rf x2_23), (3, va_rf x3_23), (4, .int x4_23)]) X.1.1 X.1.2.1 dL_law_1426 hl (by decide) (by first | rfl | simp [va_rf_cat, jcI, jcA, jcJ, jcD, jcF]) (fun ls hl => ?_)
          refine J.pu (fun _ _ _ _ k => W.rload_n X.1.1 X.1.2.1 dL_law_1428 rfl (lv_at hl 4 rfl) k) ?_
          refine J.bind (fun o1429 g1429 => ?_)
          refine J.bind (fun v1429 h1429 => ?_)
          refine J.cV (q := (RX6, TX6, 26)) (ci := 5) (As := []) (rest := []) (s2 := [.int v1429]) X ⟨rfl, rfl⟩ (jmcr (fun A hm σ9 hs M => ct_X6_thrown l hm σ9 n M)) (jrd_of h1429) (fun _ _ => cwV 0 X.1.2.2.2.2 (lw_V q2809 q2810 q2811 q174 q2812) rfl rfl rfl (by decide +kernel) ⟨(Nat.le_of_ble_eq_true rfl), (Nat.le_of_ble_eq_true rfl)⟩) g1429 rfl rfl hl.1 rfl rfl (Nat.le_of_ble_eq_true rfl) dL_law_1429 ?_
          refine J.pu (fun _ _ _ _ k => lv_iload X.1.1 X.1.2.1 dL_law_1432 (lv_at hl 1 rfl) k) ?_
          refine J.br (fun _ _ _ _ ka kb => lv_icmp_eq (tgt := 1439) X.1.1 X.1.2.1 dL_law_1434 (by decide) ka kb) (fun c1434 => ?_) (fun c1434 => ?_)
          · refine J.pu (fun _ _ _ _ k => lv_iload X.1.1 X.1.2.1 dL_law_1439 (lv_at hl 1 rfl) k) ?_
            refine J.br (fun _ _ _ _ ka kb => lv_if_ne (tgt := 1456) X.1.1 X.1.2.1 dL_law_1441 (by decide) kb ka) (fun c1441 => ?_) (fun c1441 => ?_)
            · refine J.pu (fun _ _ _ _ k => W.rload_n X.1.1 X.1.2.1 dL_law_1444 rfl (lv_at hl 5 rfl) k) ?_
              refine J.pu (fun _ _ _ _ k => lv_iconst (v := 0) X.1.1 X.1.2.1 dL_law_1445 (by decide) k) ?_
              refine J.aJ' X dL_law_1446 (fun v1446 h1446 => ?_)
              refine J.pu (fun _ _ _ _ k => lv_iload X.1.1 X.1.2.1 dL_law_1447 (lv_at hl 0 rfl) k) ?_
              refine J.pu (fun _ _ _ _ k => lv_i2l (v := v1423.toInt64) X.1.1 X.1.2.1 dL_law_1449 rfl k) ?_
              refine J.pu (fun _ _ _ _ k => W.lcmp X.1.1 X.1.2.1 dL_law_1450 k) ?_
              refine J.br (fun _ _ _ _ ka kb => lv_if_eq (tgt := 1456) X.1.1 X.1.2.1 dL_law_1451 (by decide) ka kb) (fun c1451 => ?_) (fun c1451 => ?_)
              · refine J.pu (fun _ _ _ _ k => lv_goto (tgt := 2202) X.1.1 X.1.2.1 dL_law_1456 (by decide) k) ?_
                exact j2202 x4_23 S1423 ls (lv_sub hl [2, 3, 4, 5, 6] rfl)
              · refine J.pu (fun _ _ _ _ k => lv_iconst (v := 0) X.1.1 X.1.2.1 dL_law_1454 (by decide) k) ?_
                exact J.zret (vr := fun t : Int32 × jH => jrI t.1) (fin := Prod.snd) (t := t) X hr (by decide) (by rfl) (by rfl) dL_law_1455
            · refine J.pu (fun _ _ _ _ k => lv_goto (tgt := 2202) X.1.1 X.1.2.1 dL_law_1456 (by decide) k) ?_
              exact j2202 x4_23 S1423 ls (lv_sub hl [2, 3, 4, 5, 6] rfl)
          · refine J.pu (fun _ _ _ _ k => lv_iconst (v := 0) X.1.1 X.1.2.1 dL_law_1437 (by decide) k) ?_
            exact J.zret (vr := fun t : Int32 × jH => jrI t.1) (fin := Prod.snd) (t := t) X hr (by decide) (by rfl) (by rfl) dL_law_1438
        refine J.ite (fun c40_24 => ?_) (fun c40_24 => ?_)
        · refine J.pu (fun _ _ _ _ k => lv_tableIn (tgt := 1459) (off := 1419) X.1.1 X.1.2.1 dL_law_40 (by rw [c40_24]; decide) (by rw [c40_24]; decide) (by rw [c40_24]; decide) (by decide) k) ?_
          refine J.pu (fun _ _ _ _ k => W.rload_n X.1.1 X.1.2.1 dL_law_1459 rfl (lv_at hl 1 rfl) k) ?_
          refine J.pu (fun _ _ _ _ k => W.rload_n X.1.1 X.1.2.1 dL_law_1460 rfl (lv_at hl 0 rfl) k) ?_
          refine J.pu (fun _ _ _ _ k => lv_iload X.1.1 X.1.2.1 dL_law_1461 (lv_at hl 4 rfl) k) ?_
          refine J.pu (fun _ _ _ _ k => lv_iconst (v := 1) X.1.1 X.1.2.1 dL_law_1463 (by decide) k) ?_
          refine J.pu (fun _ _ _ _ k => lv_iadd X.1.1 X.1.2.1 dL_law_1464 k) ?_
          refine J.aI0 X dL_law_1465 (fun v1465 h1465 => ?_)
          refine J.pu (fun _ _ _ _ k => W.rload_n X.1.1 X.1.2.1 dL_law_1466 rfl (lv_at hl 0 rfl) k) ?_
          refine J.pu (fun _ _ _ _ k => lv_iload X.1.1 X.1.2.1 dL_law_1467 (lv_at hl 4 rfl) k) ?_
          refine J.pu (fun _ _ _ _ k => lv_iconst (v := 2) X.1.1 X.1.2.1 dL_law_1469 (by decide) k) ?_
          refine J.pu (fun _ _ _ _ k => lv_iadd X.1.1 X.1.2.1 dL_law_1470 k) ?_
          refine J.aI0 X dL_law_1471 (fun v1471 h1471 => ?_)
          refine J.pu (fun _ _ _ _ k => W.rload_n X.1.1 X.1.2.1 dL_law_1472 rfl (lv_at hl 0 rfl) k) ?_
          refine J.pu (fun _ _ _ _ k => lv_iload X.1.1 X.1.2.1 dL_law_1473 (lv_at hl 4 rfl) k) ?_
          refine J.pu (fun _ _ _ _ k => lv_iconst (v := 3) X.1.1 X.1.2.1 dL_law_1475 (by decide) k) ?_
          refine J.pu (fun _ _ _ _ k => lv_iadd X.1.1 X.1.2.1 dL_law_1476 k) ?_
          refine J.aI0 X dL_law_1477 (fun v1477 h1477 => ?_)
          refine J.pu (fun _ _ _ _ k => W.rload_n X.1.1 X.1.2.1 dL_law_1478 rfl (lv_at hl 3 rfl) k) ?_
          refine J.bd' (fun v1479 S1479 h1479 => ?_)
          refine J.cSW (hh := [(0, 12, 15, 22), (0, 12, 19, 13)]) (As := [va_rf x1_23, .int v1465, .int v1471, .int v1477, va_rf x3_23]) (rest := []) (s2 := [.int v1479]) X ⟨rfl, rfl⟩ (ct_X0_missortsIf l hfl G n B23 x1_23 v1465 v1471 v1477 x3_23) h1479 (fun _ _ => vx_cwSW 5 X.1.2.2.2.2 (lw_SW q2612 q2613 q137 q2614) rfl rfl rfl (by decide +kernel) ⟨(Nat.le_of_ble_eq_true rfl), (Nat.le_of_ble_eq_true rfl)⟩) rfl hl.1 rfl rfl (Nat.le_of_ble_eq_true rfl) dL_law_1479 ?_
          refine J.istore (lv' := [(5, .int v1479), (0, va_rf a0), (1, va_rf x1_23), (2, va_rf x2_23), (3, va_rf x3_23), (4, .int x4_23)]) X.1.1 X.1.2.1 dL_law_1482 hl (by decide) (by first | rfl | simp [va_rf_cat, jcI, jcA, jcJ, jcD, jcF]) (fun ls hl => ?_)
          refine J.pu (fun _ _ _ _ k => W.rload_n X.1.1 X.1.2.1 dL_law_1484 rfl (lv_at hl 3 rfl) k) ?_
          refine J.pu (fun _ _ _ _ k => W.rload_n X.1.1 X.1.2.1 dL_law_1485 rfl (lv_at hl 1 rfl) k) ?_
          refine J.pu (fun _ _ _ _ k => lv_iload X.1.1 X.1.2.1 dL_law_1486 (lv_at hl 5 rfl) k) ?_
          refine J.pu (fun _ _ _ _ k => lv_iconst (v := 1) X.1.1 X.1.2.1 dL_law_1488 (by decide) k) ?_
          refine J.pu (fun _ _ _ _ k => lv_iadd X.1.1 X.1.2.1 dL_law_1489 k) ?_
          refine J.aI0 X dL_law_1490 (fun v1490 h1490 => ?_)
          refine J.pu (fun _ _ _ _ k => W.rload_n X.1.1 X.1.2.1 dL_law_1491 rfl (lv_at hl 1 rfl) k) ?_
          refine J.pu (fun _ _ _ _ k => lv_iload X.1.1 X.1.2.1 dL_law_1492 (lv_at hl 5 rfl) k) ?_
          refine J.pu (fun _ _ _ _ k => lv_iconst (v := 2) X.1.1 X.1.2.1 dL_law_1494 (by decide) k) ?_
          refine J.pu (fun _ _ _ _ k => lv_iadd X.1.1 X.1.2.1 dL_law_1495 k) ?_
          refine J.aI0 X dL_law_1496 (fun v1496 h1496 => ?_)
          refine J.pu (fun _ _ _ _ k => W.rload_n X.1.1 X.1.2.1 dL_law_1497 rfl (lv_at hl 1 rfl) k) ?_
          refine J.pu (fun _ _ _ _ k => lv_iload X.1.1 X.1.2.1 dL_law_1498 (lv_at hl 5 rfl) k) ?_
          refine J.pu (fun _ _ _ _ k => lv_iconst (v := 3) X.1.1 X.1.2.1 dL_law_1500 (by decide) k) ?_
          refine J.pu (fun _ _ _ _ k => lv_iadd X.1.1 X.1.2.1 dL_law_1501 k) ?_
          refine J.aI0 X dL_law_1502 (fun v1502 h1502 => ?_)
          refine J.bind (fun o1503 g1503 => ?_)
          refine J.bd' (fun v1503 S1503 h1503 => ?_)
          refine J.cV (q := (RX6, TX6, 26)) (ci := 5) (As := [.int v1490, .int v1496, .int v1502]) (rest := []) (s2 := [.int v1503]) X ⟨rfl, rfl⟩ (jmcw (fun A hm σ9 hs M => ct_X6_missortsIf l hm σ9 n M v1490 v1496 v1502)) h1503 (fun _ _ => cwV 3 X.1.2.2.2.2 (lw_V q3228 q3229 q3230 q174 q3231) rfl rfl rfl (by decide +kernel) ⟨(Nat.le_of_ble_eq_true rfl), (Nat.le_of_ble_eq_true rfl)⟩) g1503 rfl rfl hl.1 rfl rfl (Nat.le_of_ble_eq_true rfl) dL_law_1503 ?_
          refine J.istore (lv' := [(6, .int v1503), (5, .int v1479), (0, va_rf a0), (1, va_rf x1_23), (2, va_rf x2_23), (3, va_rf x3_23), (4, .int x4_23)]) X.1.1 X.1.2.1 dL_law_1506 hl (by decide) (by first | rfl | simp [va_rf_cat, jcI, jcA, jcJ, jcD, jcF]) (fun ls hl => ?_)
          refine J.pu (fun _ _ _ _ k => W.rload_n X.1.1 X.1.2.1 dL_law_1508 rfl (lv_at hl 4 rfl) k) ?_
          refine J.bind (fun o1509 g1509 => ?_)
          refine J.bind (fun v1509 h1509 => ?_)
          refine J.cV (q := (RX6, TX6, 26)) (ci := 5) (As := []) (rest := []) (s2 := [.int v1509]) X ⟨rfl, rfl⟩ (jmcr (fun A hm σ9 hs M => ct_X6_thrown l hm σ9 n M)) (jrd_of h1509) (fun _ _ => cwV 0 X.1.2.2.2.2 (lw_V q2809 q2810 q2811 q174 q2812) rfl rfl rfl (by decide +kernel) ⟨(Nat.le_of_ble_eq_true rfl), (Nat.le_of_ble_eq_true rfl)⟩) g1509 rfl rfl hl.1 rfl rfl (Nat.le_of_ble_eq_true rfl) dL_law_1509 ?_
          refine J.pu (fun _ _ _ _ k => lv_iload X.1.1 X.1.2.1 dL_law_1512 (lv_at hl 1 rfl) k) ?_
          refine J.br (fun _ _ _ _ ka kb => lv_icmp_eq (tgt := 1519) X.1.1 X.1.2.1 dL_law_1514 (by decide) ka kb) (fun c1514 => ?_) (fun c1514 => ?_)
          · refine J.pu (fun _ _ _ _ k => lv_iload X.1.1 X.1.2.1 dL_law_1519 (lv_at hl 1 rfl) k) ?_
            refine J.br (fun _ _ _ _ ka kb => lv_if_ne (tgt := 1536) X.1.1 X.1.2.1 dL_law_1521 (by decide) kb ka) (fun c1521 => ?_) (fun c1521 => ?_)
            · refine J.pu (fun _ _ _ _ k => W.rload_n X.1.1 X.1.2.1 dL_law_1524 rfl (lv_at hl 5 rfl) k) ?_
              refine J.pu (fun _ _ _ _ k => lv_iconst (v := 0) X.1.1 X.1.2.1 dL_law_1525 (by decide) k) ?_
              refine J.aJ' X dL_law_1526 (fun v1526 h1526 => ?_)
              refine J.pu (fun _ _ _ _ k => lv_iload X.1.1 X.1.2.1 dL_law_1527 (lv_at hl 0 rfl) k) ?_
              refine J.pu (fun _ _ _ _ k => lv_i2l (v := v1503.toInt64) X.1.1 X.1.2.1 dL_law_1529 rfl k) ?_
              refine J.pu (fun _ _ _ _ k => W.lcmp X.1.1 X.1.2.1 dL_law_1530 k) ?_
              refine J.br (fun _ _ _ _ ka kb => lv_if_eq (tgt := 1536) X.1.1 X.1.2.1 dL_law_1531 (by decide) ka kb) (fun c1531 => ?_) (fun c1531 => ?_)
              · refine J.pu (fun _ _ _ _ k => lv_goto (tgt := 2202) X.1.1 X.1.2.1 dL_law_1536 (by decide) k) ?_
                exact j2202 x4_23 S1503 ls (lv_sub hl [2, 3, 4, 5, 6] rfl)
              · refine J.pu (fun _ _ _ _ k => lv_iconst (v := 0) X.1.1 X.1.2.1 dL_law_1534 (by decide) k) ?_
                exact J.zret (vr := fun t : Int32 × jH => jrI t.1) (fin := Prod.snd) (t := t) X hr (by decide) (by rfl) (by rfl) dL_law_1535
            · refine J.pu (fun _ _ _ _ k => lv_goto (tgt := 2202) X.1.1 X.1.2.1 dL_law_1536 (by decide) k) ?_
              exact j2202 x4_23 S1503 ls (lv_sub hl [2, 3, 4, 5, 6] rfl)
          · refine J.pu (fun _ _ _ _ k => lv_iconst (v := 0) X.1.1 X.1.2.1 dL_law_1517 (by decide) k) ?_
            exact J.zret (vr := fun t : Int32 × jH => jrI t.1) (fin := Prod.snd) (t := t) X hr (by decide) (by rfl) (by rfl) dL_law_1518
        refine J.ite (fun c40_25 => ?_) (fun c40_25 => ?_)
        · refine J.pu (fun _ _ _ _ k => lv_tableIn (tgt := 1539) (off := 1499) X.1.1 X.1.2.1 dL_law_40 (by rw [c40_25]; decide) (by rw [c40_25]; decide) (by rw [c40_25]; decide) (by decide) k) ?_
          refine J.pu (fun _ _ _ _ k => W.rload_n X.1.1 X.1.2.1 dL_law_1539 rfl (lv_at hl 1 rfl) k) ?_
          refine J.bind (fun o1540 g1540 => ?_)
          refine J.bd' (fun v1540 S1540 h1540 => ?_)
          refine J.cV (q := (RX1, TX1, 9)) (ci := 0) (As := []) (rest := []) (s2 := [.int v1540]) X ⟨rfl, rfl⟩ (ct_X1_clearIn l G n B23 o1540) h1540 (fun _ _ => cwV 0 X.1.2.2.2.2 (lw_V q2158 q2159 q2160 q138 q2161) rfl rfl rfl (by decide +kernel) ⟨(Nat.le_of_ble_eq_true rfl), (Nat.le_of_ble_eq_true rfl)⟩) g1540 rfl rfl hl.1 rfl rfl (Nat.le_of_ble_eq_true rfl) dL_law_1540 ?_
          refine J.pu (fun _ _ _ _ k => W.rload_n X.1.1 X.1.2.1 dL_law_1543 rfl (lv_at hl 2 rfl) k) ?_
          refine J.bind (fun o1544 g1544 => ?_)
          refine J.bd' (fun v1544 S1544 h1544 => ?_)
          refine J.cV (q := (RX6, TX6, 26)) (ci := 5) (As := []) (rest := [.int v1540]) (s2 := [.int v1544, .int v1540]) X ⟨rfl, rfl⟩ (jmcw (fun A hm σ9 hs M => ct_X6_clearIn l hm σ9 n M)) h1544 (fun _ _ => cwV 0 X.1.2.2.2.2 (lw_V q3232 q3233 q3234 q174 q3235) rfl rfl rfl (by decide +kernel) ⟨(Nat.le_of_ble_eq_true rfl), (Nat.le_of_ble_eq_true rfl)⟩) g1544 rfl rfl hl.1 rfl rfl (Nat.le_of_ble_eq_true rfl) dL_law_1544 ?_
          refine J.br (fun _ _ _ _ ka kb => lv_icmp_eq (tgt := 2202) X.1.1 X.1.2.1 dL_law_1547 (by decide) ka kb) (fun c1547 => ?_) (fun c1547 => ?_)
          · exact j2202 x4_23 S1544 ls (lv_sub hl [0, 1, 2, 3, 4] rfl)
          · refine J.pu (fun _ _ _ _ k => lv_iconst (v := 0) X.1.1 X.1.2.1 dL_law_1550 (by decide) k) ?_
            exact J.zret (vr := fun t : Int32 × jH => jrI t.1) (fin := Prod.snd) (t := t) X hr (by decide) (by rfl) (by rfl) dL_law_1551
        refine J.ite (fun c40_26 => ?_) (fun c40_26 => ?_)
        · refine J.pu (fun _ _ _ _ k => lv_tableIn (tgt := 1552) (off := 1512) X.1.1 X.1.2.1 dL_law_40 (by rw [c40_26]; decide) (by rw [c40_26]; decide) (by rw [c40_26]; decide) (by decide) k) ?_
          refine J.pu (fun _ _ _ _ k => W.rload_n X.1.1 X.1.2.1 dL_law_1552 rfl (lv_at hl 1 rfl) k) ?_
          refine J.bind (fun o1553 g1553 => ?_)
          refine J.bd' (fun v1553 S1553 h1553 => ?_)
          refine J.cV (q := (RX1, TX1, 9)) (ci := 0) (As := []) (rest := []) (s2 := [.int v1553]) X ⟨rfl, rfl⟩ (ct_X1_freeIn l G n B23 o1553) h1553 (fun _ _ => cwV 0 X.1.2.2.2.2 (lw_V q2169 q2170 q2171 q138 q2172) rfl rfl rfl (by decide +kernel) ⟨(Nat.le_of_ble_eq_true rfl), (Nat.le_of_ble_eq_true rfl)⟩) g1553 rfl rfl hl.1 rfl rfl (Nat.le_of_ble_eq_true rfl) dL_law_1553 ?_
          refine J.pu (fun _ _ _ _ k => W.rload_n X.1.1 X.1.2.1 dL_law_1556 rfl (lv_at hl 2 rfl) k) ?_
          refine J.bind (fun o1557 g1557 => ?_)
          refine J.bd' (fun v1557 S1557 h1557 => ?_)
          refine J.cV (q := (RX6, TX6, 26)) (ci := 5) (As := []) (rest := [.int v1553]) (s2 := [.int v1557, .int v1553]) X ⟨rfl, rfl⟩ (jmcw (fun A hm σ9 hs M => ct_X6_freeIn l hm σ9 n M)) h1557 (fun _ _ => cwV 0 X.1.2.2.2.2 (lw_V q3236 q3237 q3238 q174 q3239) rfl rfl rfl (by decide +kernel) ⟨(Nat.le_of_ble_eq_true rfl), (Nat.le_of_ble_eq_true rfl)⟩) g1557 rfl rfl hl.1 rfl rfl (Nat.le_of_ble_eq_true rfl) dL_law_1557 ?_
          refine J.br (fun _ _ _ _ ka kb => lv_icmp_eq (tgt := 2202) X.1.1 X.1.2.1 dL_law_1560 (by decide) ka kb) (fun c1560 => ?_) (fun c1560 => ?_)
          · exact j2202 x4_23 S1557 ls (lv_sub hl [0, 1, 2, 3, 4] rfl)
          · refine J.pu (fun _ _ _ _ k => lv_iconst (v := 0) X.1.1 X.1.2.1 dL_law_1563 (by decide) k) ?_
            exact J.zret (vr := fun t : Int32 × jH => jrI t.1) (fin := Prod.snd) (t := t) X hr (by decide) (by rfl) (by rfl) dL_law_1564
        refine J.ite (fun c40_27 => ?_) (fun c40_27 => ?_)
        · refine J.pu (fun _ _ _ _ k => lv_tableIn (tgt := 1565) (off := 1525) X.1.1 X.1.2.1 dL_law_40 (by rw [c40_27]; decide) (by rw [c40_27]; decide) (by rw [c40_27]; decide) (by decide) k) ?_
          refine J.pu (fun _ _ _ _ k => W.rload_n X.1.1 X.1.2.1 dL_law_1565 rfl (lv_at hl 1 rfl) k) ?_
          refine J.bind (fun o1566 g1566 => ?_)
          refine J.bind (fun v1566 h1566 => ?_)
          refine J.cV (q := (RX1, TX1, 9)) (ci := 0) (As := []) (rest := []) (s2 := [.int v1566]) X ⟨rfl, rfl⟩ (ct_X1_agree l G n B23 o1566) (jrd_of h1566) (fun _ _ => cwV 0 X.1.2.2.2.2 (lw_V q2174 q2175 q2176 q138 q2177) rfl rfl rfl (by decide +kernel) ⟨(Nat.le_of_ble_eq_true rfl), (Nat.le_of_ble_eq_true rfl)⟩) g1566 rfl rfl hl.1 rfl rfl (Nat.le_of_ble_eq_true rfl) dL_law_1566 ?_
          refine J.pu (fun _ _ _ _ k => W.rload_n X.1.1 X.1.2.1 dL_law_1569 rfl (lv_at hl 2 rfl) k) ?_
          refine J.bind (fun o1570 g1570 => ?_)
          refine J.bd' (fun v1570 S1570 h1570 => ?_)
          refine J.cV (q := (RX6, TX6, 26)) (ci := 5) (As := []) (rest := [.int v1566]) (s2 := [.int v1570, .int v1566]) X ⟨rfl, rfl⟩ (jmcw (fun A hm σ9 hs M => ct_X6_agree l hm σ9 n M)) h1570 (fun _ _ => cwV 0 X.1.2.2.2.2 (lw_V q3240 q3241 q3242 q174 q3243) rfl rfl rfl (by decide +kernel) ⟨(Nat.le_of_ble_eq_true rfl), (Nat.le_of_ble_eq_true rfl)⟩) g1570 rfl rfl hl.1 rfl rfl (Nat.le_of_ble_eq_true rfl) dL_law_1570 ?_
          refine J.br (fun _ _ _ _ ka kb => lv_icmp_eq (tgt := 2202) X.1.1 X.1.2.1 dL_law_1573 (by decide) ka kb) (fun c1573 => ?_) (fun c1573 => ?_)
          · exact j2202 x4_23 S1570 ls (lv_sub hl [0, 1, 2, 3, 4] rfl)
          · refine J.pu (fun _ _ _ _ k => lv_iconst (v := 0) X.1.1 X.1.2.1 dL_law_1576 (by decide) k) ?_
            exact J.zret (vr := fun t : Int32 × jH => jrI t.1) (fin := Prod.snd) (t := t) X hr (by decide) (by rfl) (by rfl) dL_law_1577
        refine J.ite (fun c40_28 => ?_) (fun c40_28 => ?_)
        · refine J.pu (fun _ _ _ _ k => lv_tableIn (tgt := 1578) (off := 1538) X.1.1 X.1.2.1 dL_law_40 (by rw [c40_28]; decide) (by rw [c40_28]; decide) (by rw [c40_28]; decide) (by decide) k) ?_
          refine J.pu (fun _ _ _ _ k => W.rload_n X.1.1 X.1.2.1 dL_law_1578 rfl (lv_at hl 1 rfl) k) ?_
          refine J.bind (fun o1579 g1579 => ?_)
          refine J.bind (fun v1579 h1579 => ?_)
          refine J.cV (q := (RX1, TX1, 9)) (ci := 0) (As := []) (rest := []) (s2 := [.double v1579]) X ⟨rfl, rfl⟩ (ct_X1_sortedPart l G n B23 o1579) (jrd_of h1579) (fun _ _ => cwV 0 X.1.2.2.2.2 (lw_V q2269 q2270 q2271 q138 q2272) rfl rfl rfl (by decide +kernel) ⟨(Nat.le_of_ble_eq_true rfl), (Nat.le_of_ble_eq_true rfl)⟩) g1579 rfl rfl hl.1 rfl rfl (Nat.le_of_ble_eq_true rfl) dL_law_1579 ?_
          refine J.dstore (lv' := [(5, .double v1579), (0, va_rf a0), (1, va_rf x1_23), (2, va_rf x2_23), (3, va_rf x3_23), (4, .int x4_23)]) X.1.1 X.1.2.1 dL_law_1582 hl (by decide) (by first | rfl | simp [va_rf_cat, jcI, jcA, jcJ, jcD, jcF]) (fun ls hl => ?_)
          refine J.pu (fun _ _ _ _ k => W.rload_n X.1.1 X.1.2.1 dL_law_1584 rfl (lv_at hl 3 rfl) k) ?_
          refine J.bind (fun o1585 g1585 => ?_)
          refine J.bd' (fun v1585 S1585 h1585 => ?_)
          refine J.cV (q := (RX6, TX6, 26)) (ci := 5) (As := []) (rest := []) (s2 := [.double v1585]) X ⟨rfl, rfl⟩ (jmcw (fun A hm σ9 hs M => ct_X6_sortedPart l hm σ9 n M)) h1585 (fun _ _ => cwV 0 X.1.2.2.2.2 (lw_V q3252 q3253 q3254 q174 q3255) rfl rfl rfl (by decide +kernel) ⟨(Nat.le_of_ble_eq_true rfl), (Nat.le_of_ble_eq_true rfl)⟩) g1585 rfl rfl hl.1 rfl rfl (Nat.le_of_ble_eq_true rfl) dL_law_1585 ?_
          refine J.dstore (lv' := [(7, .double v1585), (5, .double v1579), (0, va_rf a0), (1, va_rf x1_23), (2, va_rf x2_23), (3, va_rf x3_23), (4, .int x4_23)]) X.1.1 X.1.2.1 dL_law_1588 hl (by decide) (by first | rfl | simp [va_rf_cat, jcI, jcA, jcJ, jcD, jcF]) (fun ls hl => ?_)
          refine J.pu (fun _ _ _ _ k => lv_dload X.1.1 X.1.2.1 dL_law_1590 (lv_at hl 1 rfl) k) ?_
          refine J.pu (fun _ _ _ _ k => lv_dload X.1.1 X.1.2.1 dL_law_1592 (lv_at hl 0 rfl) k) ?_
          refine J.pu (fun _ _ _ _ k => lv_dcmp X.1.1 X.1.2.1 dL_law_1594 k) ?_
          refine J.br (fun _ _ _ _ ka kb => lv_if_eq (tgt := 1616) X.1.1 X.1.2.1 dL_law_1595 (by decide) ka kb) (fun c1595 => ?_) (fun c1595 => ?_)
          · refine J.pu (fun _ _ _ _ k => lv_goto (tgt := 2202) X.1.1 X.1.2.1 dL_law_1616 (by decide) k) ?_
            exact j2202 x4_23 S1585 ls (lv_sub hl [2, 3, 4, 5, 6] rfl)
          · refine J.pu (fun _ _ _ _ k => lv_dload X.1.1 X.1.2.1 dL_law_1598 (lv_at hl 1 rfl) k) ?_
            refine J.pu (fun _ _ _ _ k => lv_dload X.1.1 X.1.2.1 dL_law_1600 (lv_at hl 1 rfl) k) ?_
            refine J.pu (fun _ _ _ _ k => lv_dcmp X.1.1 X.1.2.1 dL_law_1602 k) ?_
            refine J.br (fun _ _ _ _ ka kb => lv_if_eq (tgt := 1614) X.1.1 X.1.2.1 dL_law_1603 (by decide) ka kb) (fun c1603 => ?_) (fun c1603 => ?_)
            · refine J.pu (fun _ _ _ _ k => lv_iconst (v := 0) X.1.1 X.1.2.1 dL_law_1614 (by decide) k) ?_
              exact J.zret (vr := fun t : Int32 × jH => jrI t.1) (fin := Prod.snd) (t := t) X hr (by decide) (by rfl) (by rfl) dL_law_1615
            · refine J.pu (fun _ _ _ _ k => lv_dload X.1.1 X.1.2.1 dL_law_1606 (lv_at hl 0 rfl) k) ?_
              refine J.pu (fun _ _ _ _ k => lv_dload X.1.1 X.1.2.1 dL_law_1608 (lv_at hl 0 rfl) k) ?_
              refine J.pu (fun _ _ _ _ k => lv_dcmp X.1.1 X.1.2.1 dL_law_1610 k) ?_
              refine J.br (fun _ _ _ _ ka kb => lv_if_ne (tgt := 1616) X.1.1 X.1.2.1 dL_law_1611 (by decide) kb ka) (fun c1611 => ?_) (fun c1611 => ?_)
              · refine J.pu (fun _ _ _ _ k => lv_iconst (v := 0) X.1.1 X.1.2.1 dL_law_1614 (by decide) k) ?_
                exact J.zret (vr := fun t : Int32 × jH => jrI t.1) (fin := Prod.snd) (t := t) X hr (by decide) (by rfl) (by rfl) dL_law_1615
              · refine J.pu (fun _ _ _ _ k => lv_goto (tgt := 2202) X.1.1 X.1.2.1 dL_law_1616 (by decide) k) ?_
                exact j2202 x4_23 S1585 ls (lv_sub hl [2, 3, 4, 5, 6] rfl)
        refine J.ite (fun c40_29 => ?_) (fun c40_29 => ?_)
        · refine J.pu (fun _ _ _ _ k => lv_tableIn (tgt := 1619) (off := 1579) X.1.1 X.1.2.1 dL_law_40 (by rw [c40_29]; decide) (by rw [c40_29]; decide) (by rw [c40_29]; decide) (by decide) k) ?_
          refine J.pu (fun _ _ _ _ k => W.rload_n X.1.1 X.1.2.1 dL_law_1619 rfl (lv_at hl 1 rfl) k) ?_
          refine J.bind (fun o1620 g1620 => ?_)
          refine J.bind (fun v1620 h1620 => ?_)
          refine J.cV (q := (RX1, TX1, 9)) (ci := 0) (As := []) (rest := []) (s2 := [.float v1620]) X ⟨rfl, rfl⟩ (ct_X1_load l G n B23 o1620) (jrd_of h1620) (fun _ _ => cwV 0 X.1.2.2.2.2 (lw_V q2273 q2274 q2275 q138 q2276) rfl rfl rfl (by decide +kernel) ⟨(Nat.le_of_ble_eq_true rfl), (Nat.le_of_ble_eq_true rfl)⟩) g1620 rfl rfl hl.1 rfl rfl (Nat.le_of_ble_eq_true rfl) dL_law_1620 ?_
          refine J.n64 (fun z1623 => ?_)
          refine J.pu (fun _ _ _ _ k => lv_f2d X.1.1 X.1.2.1 dL_law_1623 z1623 k) ?_
          refine J.dstore (lv' := [(5, .double (FP.f2d v1620)), (0, va_rf a0), (1, va_rf x1_23), (2, va_rf x2_23), (3, va_rf x3_23), (4, .int x4_23)]) X.1.1 X.1.2.1 dL_law_1624 hl (by decide) (by first | rfl | simp [va_rf_cat, jcI, jcA, jcJ, jcD, jcF]) (fun ls hl => ?_)
          refine J.pu (fun _ _ _ _ k => W.rload_n X.1.1 X.1.2.1 dL_law_1626 rfl (lv_at hl 3 rfl) k) ?_
          refine J.bind (fun o1627 g1627 => ?_)
          refine J.bd' (fun v1627 S1627 h1627 => ?_)
          refine J.cV (q := (RX6, TX6, 26)) (ci := 5) (As := []) (rest := []) (s2 := [.float v1627]) X ⟨rfl, rfl⟩ (jmcw (fun A hm σ9 hs M => ct_X6_load l hm σ9 n M)) h1627 (fun _ _ => cwV 0 X.1.2.2.2.2 (lw_V q3256 q3257 q3258 q174 q3259) rfl rfl rfl (by decide +kernel) ⟨(Nat.le_of_ble_eq_true rfl), (Nat.le_of_ble_eq_true rfl)⟩) g1627 rfl rfl hl.1 rfl rfl (Nat.le_of_ble_eq_true rfl) dL_law_1627 ?_
          refine J.n64 (fun z1630 => ?_)
          refine J.pu (fun _ _ _ _ k => lv_f2d X.1.1 X.1.2.1 dL_law_1630 z1630 k) ?_
          refine J.dstore (lv' := [(7, .double (FP.f2d v1627)), (5, .double (FP.f2d v1620)), (0, va_rf a0), (1, va_rf x1_23), (2, va_rf x2_23), (3, va_rf x3_23), (4, .int x4_23)]) X.1.1 X.1.2.1 dL_law_1631 hl (by decide) (by first | rfl | simp [va_rf_cat, jcI, jcA, jcJ, jcD, jcF]) (fun ls hl => ?_)
          refine J.pu (fun _ _ _ _ k => lv_dload X.1.1 X.1.2.1 dL_law_1633 (lv_at hl 1 rfl) k) ?_
          refine J.pu (fun _ _ _ _ k => lv_dload X.1.1 X.1.2.1 dL_law_1635 (lv_at hl 0 rfl) k) ?_
          refine J.pu (fun _ _ _ _ k => lv_dcmp X.1.1 X.1.2.1 dL_law_1637 k) ?_
          refine J.br (fun _ _ _ _ ka kb => lv_if_eq (tgt := 1659) X.1.1 X.1.2.1 dL_law_1638 (by decide) ka kb) (fun c1638 => ?_) (fun c1638 => ?_)
          · refine J.pu (fun _ _ _ _ k => lv_goto (tgt := 2202) X.1.1 X.1.2.1 dL_law_1659 (by decide) k) ?_
            exact j2202 x4_23 S1627 ls (lv_sub hl [2, 3, 4, 5, 6] rfl)
          · refine J.pu (fun _ _ _ _ k => lv_dload X.1.1 X.1.2.1 dL_law_1641 (lv_at hl 1 rfl) k) ?_
            refine J.pu (fun _ _ _ _ k => lv_dload X.1.1 X.1.2.1 dL_law_1643 (lv_at hl 1 rfl) k) ?_
            refine J.pu (fun _ _ _ _ k => lv_dcmp X.1.1 X.1.2.1 dL_law_1645 k) ?_
            refine J.br (fun _ _ _ _ ka kb => lv_if_eq (tgt := 1657) X.1.1 X.1.2.1 dL_law_1646 (by decide) ka kb) (fun c1646 => ?_) (fun c1646 => ?_)
            · refine J.pu (fun _ _ _ _ k => lv_iconst (v := 0) X.1.1 X.1.2.1 dL_law_1657 (by decide) k) ?_
              exact J.zret (vr := fun t : Int32 × jH => jrI t.1) (fin := Prod.snd) (t := t) X hr (by decide) (by rfl) (by rfl) dL_law_1658
            · refine J.pu (fun _ _ _ _ k => lv_dload X.1.1 X.1.2.1 dL_law_1649 (lv_at hl 0 rfl) k) ?_
              refine J.pu (fun _ _ _ _ k => lv_dload X.1.1 X.1.2.1 dL_law_1651 (lv_at hl 0 rfl) k) ?_
              refine J.pu (fun _ _ _ _ k => lv_dcmp X.1.1 X.1.2.1 dL_law_1653 k) ?_
              refine J.br (fun _ _ _ _ ka kb => lv_if_ne (tgt := 1659) X.1.1 X.1.2.1 dL_law_1654 (by decide) kb ka) (fun c1654 => ?_) (fun c1654 => ?_)
              · refine J.pu (fun _ _ _ _ k => lv_iconst (v := 0) X.1.1 X.1.2.1 dL_law_1657 (by decide) k) ?_
                exact J.zret (vr := fun t : Int32 × jH => jrI t.1) (fin := Prod.snd) (t := t) X hr (by decide) (by rfl) (by rfl) dL_law_1658
              · refine J.pu (fun _ _ _ _ k => lv_goto (tgt := 2202) X.1.1 X.1.2.1 dL_law_1659 (by decide) k) ?_
                exact j2202 x4_23 S1627 ls (lv_sub hl [2, 3, 4, 5, 6] rfl)
        refine J.ite (fun c40_30 => ?_) (fun c40_30 => ?_)
        · refine J.pu (fun _ _ _ _ k => lv_tableIn (tgt := 1662) (off := 1622) X.1.1 X.1.2.1 dL_law_40 (by rw [c40_30]; decide) (by rw [c40_30]; decide) (by rw [c40_30]; decide) (by decide) k) ?_
          refine J.pu (fun _ _ _ _ k => W.rload_n X.1.1 X.1.2.1 dL_law_1662 rfl (lv_at hl 1 rfl) k) ?_
          refine J.pu (fun _ _ _ _ k => W.rload_n X.1.1 X.1.2.1 dL_law_1663 rfl (lv_at hl 0 rfl) k) ?_
          refine J.pu (fun _ _ _ _ k => lv_iload X.1.1 X.1.2.1 dL_law_1664 (lv_at hl 4 rfl) k) ?_
          refine J.pu (fun _ _ _ _ k => lv_iconst (v := 1) X.1.1 X.1.2.1 dL_law_1666 (by decide) k) ?_
          refine J.pu (fun _ _ _ _ k => lv_iadd X.1.1 X.1.2.1 dL_law_1667 k) ?_
          refine J.aI0 X dL_law_1668 (fun v1668 h1668 => ?_)
          refine J.pu (fun _ _ _ _ k => W.rload_n X.1.1 X.1.2.1 dL_law_1669 rfl (lv_at hl 0 rfl) k) ?_
          refine J.pu (fun _ _ _ _ k => lv_iload X.1.1 X.1.2.1 dL_law_1670 (lv_at hl 4 rfl) k) ?_
          refine J.pu (fun _ _ _ _ k => lv_iconst (v := 2) X.1.1 X.1.2.1 dL_law_1672 (by decide) k) ?_
          refine J.pu (fun _ _ _ _ k => lv_iadd X.1.1 X.1.2.1 dL_law_1673 k) ?_
          refine J.aI0 X dL_law_1674 (fun v1674 h1674 => ?_)
          refine J.pu (fun _ _ _ _ k => W.rload_n X.1.1 X.1.2.1 dL_law_1675 rfl (lv_at hl 3 rfl) k) ?_
          refine J.bd' (fun v1676 S1676 h1676 => ?_)
          refine J.cSW (hh := [(0, 10, 13, 22), (0, 10, 17, 13), (0, 10, 21, 73)]) (As := [va_rf x1_23, .int v1668, .int v1674, va_rf x3_23]) (rest := []) (s2 := [.int v1676]) X ⟨rfl, rfl⟩ (ct_X0_put l hfl G n B23 x1_23 v1668 v1674 x3_23) h1676 (fun _ _ => vx_cwSW 4 X.1.2.2.2.2 (lw_SW q2621 q2622 q137 q2623) rfl rfl rfl (by decide +kernel) ⟨(Nat.le_of_ble_eq_true rfl), (Nat.le_of_ble_eq_true rfl)⟩) rfl hl.1 rfl rfl (Nat.le_of_ble_eq_true rfl) dL_law_1676 ?_
          refine J.istore (lv' := [(5, .int v1676), (0, va_rf a0), (1, va_rf x1_23), (2, va_rf x2_23), (3, va_rf x3_23), (4, .int x4_23)]) X.1.1 X.1.2.1 dL_law_1679 hl (by decide) (by first | rfl | simp [va_rf_cat, jcI, jcA, jcJ, jcD, jcF]) (fun ls hl => ?_)
          refine J.pu (fun _ _ _ _ k => W.rload_n X.1.1 X.1.2.1 dL_law_1681 rfl (lv_at hl 3 rfl) k) ?_
          refine J.pu (fun _ _ _ _ k => W.rload_n X.1.1 X.1.2.1 dL_law_1682 rfl (lv_at hl 1 rfl) k) ?_
          refine J.pu (fun _ _ _ _ k => lv_iload X.1.1 X.1.2.1 dL_law_1683 (lv_at hl 5 rfl) k) ?_
          refine J.pu (fun _ _ _ _ k => lv_iconst (v := 1) X.1.1 X.1.2.1 dL_law_1685 (by decide) k) ?_
          refine J.pu (fun _ _ _ _ k => lv_iadd X.1.1 X.1.2.1 dL_law_1686 k) ?_
          refine J.aI0 X dL_law_1687 (fun v1687 h1687 => ?_)
          refine J.pu (fun _ _ _ _ k => W.rload_n X.1.1 X.1.2.1 dL_law_1688 rfl (lv_at hl 1 rfl) k) ?_
          refine J.pu (fun _ _ _ _ k => lv_iload X.1.1 X.1.2.1 dL_law_1689 (lv_at hl 5 rfl) k) ?_
          refine J.pu (fun _ _ _ _ k => lv_iconst (v := 2) X.1.1 X.1.2.1 dL_law_1691 (by decide) k) ?_
          refine J.pu (fun _ _ _ _ k => lv_iadd X.1.1 X.1.2.1 dL_law_1692 k) ?_
          refine J.aI0 X dL_law_1693 (fun v1693 h1693 => ?_)
          refine J.bind (fun o1694 g1694 => ?_)
          refine J.bd' (fun v1694 S1694 h1694 => ?_)
          refine J.cV (q := (RX6, TX6, 26)) (ci := 5) (As := [.int v1687, .int v1693]) (rest := []) (s2 := [.int v1694]) X ⟨rfl, rfl⟩ (jmcw (fun A hm σ9 hs M => ct_X6_put l hm σ9 n M v1687 v1693)) h1694 (fun _ _ => cwV 2 X.1.2.2.2.2 (lw_V q3260 q3261 q3262 q174 q3263) rfl rfl rfl (by decide +kernel) ⟨(Nat.le_of_ble_eq_true rfl), (Nat.le_of_ble_eq_true rfl)⟩) g1694 rfl rfl hl.1 rfl rfl (Nat.le_of_ble_eq_true rfl) dL_law_1694 ?_
          refine J.istore (lv' := [(6, .int v1694), (5, .int v1676), (0, va_rf a0), (1, va_rf x1_23), (2, va_rf x2_23), (3, va_rf x3_23), (4, .int x4_23)]) X.1.1 X.1.2.1 dL_law_1697 hl (by decide) (by first | rfl | simp [va_rf_cat, jcI, jcA, jcJ, jcD, jcF]) (fun ls hl => ?_)
          refine J.pu (fun _ _ _ _ k => W.rload_n X.1.1 X.1.2.1 dL_law_1699 rfl (lv_at hl 4 rfl) k) ?_
          refine J.bind (fun o1700 g1700 => ?_)
          refine J.bind (fun v1700 h1700 => ?_)
          refine J.cV (q := (RX6, TX6, 26)) (ci := 5) (As := []) (rest := []) (s2 := [.int v1700]) X ⟨rfl, rfl⟩ (jmcr (fun A hm σ9 hs M => ct_X6_thrown l hm σ9 n M)) (jrd_of h1700) (fun _ _ => cwV 0 X.1.2.2.2.2 (lw_V q2809 q2810 q2811 q174 q2812) rfl rfl rfl (by decide +kernel) ⟨(Nat.le_of_ble_eq_true rfl), (Nat.le_of_ble_eq_true rfl)⟩) g1700 rfl rfl hl.1 rfl rfl (Nat.le_of_ble_eq_true rfl) dL_law_1700 ?_
          refine J.pu (fun _ _ _ _ k => lv_iload X.1.1 X.1.2.1 dL_law_1703 (lv_at hl 1 rfl) k) ?_
          refine J.br (fun _ _ _ _ ka kb => lv_icmp_eq (tgt := 1710) X.1.1 X.1.2.1 dL_law_1705 (by decide) ka kb) (fun c1705 => ?_) (fun c1705 => ?_)
          · refine J.pu (fun _ _ _ _ k => lv_iload X.1.1 X.1.2.1 dL_law_1710 (lv_at hl 1 rfl) k) ?_
            refine J.br (fun _ _ _ _ ka kb => lv_if_ne (tgt := 1727) X.1.1 X.1.2.1 dL_law_1712 (by decide) kb ka) (fun c1712 => ?_) (fun c1712 => ?_)
            · refine J.pu (fun _ _ _ _ k => W.rload_n X.1.1 X.1.2.1 dL_law_1715 rfl (lv_at hl 5 rfl) k) ?_
              refine J.pu (fun _ _ _ _ k => lv_iconst (v := 0) X.1.1 X.1.2.1 dL_law_1716 (by decide) k) ?_
              refine J.aJ' X dL_law_1717 (fun v1717 h1717 => ?_)
              refine J.pu (fun _ _ _ _ k => lv_iload X.1.1 X.1.2.1 dL_law_1718 (lv_at hl 0 rfl) k) ?_
              refine J.pu (fun _ _ _ _ k => lv_i2l (v := v1694.toInt64) X.1.1 X.1.2.1 dL_law_1720 rfl k) ?_
              refine J.pu (fun _ _ _ _ k => W.lcmp X.1.1 X.1.2.1 dL_law_1721 k) ?_
              refine J.br (fun _ _ _ _ ka kb => lv_if_eq (tgt := 1727) X.1.1 X.1.2.1 dL_law_1722 (by decide) ka kb) (fun c1722 => ?_) (fun c1722 => ?_)
              · refine J.pu (fun _ _ _ _ k => lv_goto (tgt := 2202) X.1.1 X.1.2.1 dL_law_1727 (by decide) k) ?_
                exact j2202 x4_23 S1694 ls (lv_sub hl [2, 3, 4, 5, 6] rfl)
              · refine J.pu (fun _ _ _ _ k => lv_iconst (v := 0) X.1.1 X.1.2.1 dL_law_1725 (by decide) k) ?_
                exact J.zret (vr := fun t : Int32 × jH => jrI t.1) (fin := Prod.snd) (t := t) X hr (by decide) (by rfl) (by rfl) dL_law_1726
            · refine J.pu (fun _ _ _ _ k => lv_goto (tgt := 2202) X.1.1 X.1.2.1 dL_law_1727 (by decide) k) ?_
              exact j2202 x4_23 S1694 ls (lv_sub hl [2, 3, 4, 5, 6] rfl)
          · refine J.pu (fun _ _ _ _ k => lv_iconst (v := 0) X.1.1 X.1.2.1 dL_law_1708 (by decide) k) ?_
            exact J.zret (vr := fun t : Int32 × jH => jrI t.1) (fin := Prod.snd) (t := t) X hr (by decide) (by rfl) (by rfl) dL_law_1709
        refine J.ite (fun c40_31 => ?_) (fun c40_31 => ?_)
        · refine J.pu (fun _ _ _ _ k => lv_tableIn (tgt := 1730) (off := 1690) X.1.1 X.1.2.1 dL_law_40 (by rw [c40_31]; decide) (by rw [c40_31]; decide) (by rw [c40_31]; decide) (by decide) k) ?_
          refine J.pu (fun _ _ _ _ k => W.rload_n X.1.1 X.1.2.1 dL_law_1730 rfl (lv_at hl 1 rfl) k) ?_
          refine J.pu (fun _ _ _ _ k => W.rload_n X.1.1 X.1.2.1 dL_law_1731 rfl (lv_at hl 0 rfl) k) ?_
          refine J.pu (fun _ _ _ _ k => lv_iload X.1.1 X.1.2.1 dL_law_1732 (lv_at hl 4 rfl) k) ?_
          refine J.pu (fun _ _ _ _ k => lv_iconst (v := 1) X.1.1 X.1.2.1 dL_law_1734 (by decide) k) ?_
          refine J.pu (fun _ _ _ _ k => lv_iadd X.1.1 X.1.2.1 dL_law_1735 k) ?_
          refine J.aI0 X dL_law_1736 (fun v1736 h1736 => ?_)
          refine J.pu (fun _ _ _ _ k => W.rload_n X.1.1 X.1.2.1 dL_law_1737 rfl (lv_at hl 3 rfl) k) ?_
          refine J.bd' (fun v1738 S1738 h1738 => ?_)
          refine J.cSW (hh := [(0, 9, 12, 13), (0, 9, 15, 73)]) (As := [va_rf x1_23, .int v1736, va_rf x3_23]) (rest := []) (s2 := [.int v1738]) X ⟨rfl, rfl⟩ (ct_X0_tick l hfl G n B23 x1_23 v1736 x3_23) h1738 (fun _ _ => vx_cwSW 3 X.1.2.2.2.2 (lw_SW q2639 q2640 q137 q2641) rfl rfl rfl (by decide +kernel) ⟨(Nat.le_of_ble_eq_true rfl), (Nat.le_of_ble_eq_true rfl)⟩) rfl hl.1 rfl rfl (Nat.le_of_ble_eq_true rfl) dL_law_1738 ?_
          refine J.istore (lv' := [(5, .int v1738), (0, va_rf a0), (1, va_rf x1_23), (2, va_rf x2_23), (3, va_rf x3_23), (4, .int x4_23)]) X.1.1 X.1.2.1 dL_law_1741 hl (by decide) (by first | rfl | simp [va_rf_cat, jcI, jcA, jcJ, jcD, jcF]) (fun ls hl => ?_)
          refine J.pu (fun _ _ _ _ k => W.rload_n X.1.1 X.1.2.1 dL_law_1743 rfl (lv_at hl 3 rfl) k) ?_
          refine J.pu (fun _ _ _ _ k => W.rload_n X.1.1 X.1.2.1 dL_law_1744 rfl (lv_at hl 1 rfl) k) ?_
          refine J.pu (fun _ _ _ _ k => lv_iload X.1.1 X.1.2.1 dL_law_1745 (lv_at hl 5 rfl) k) ?_
          refine J.pu (fun _ _ _ _ k => lv_iconst (v := 1) X.1.1 X.1.2.1 dL_law_1747 (by decide) k) ?_
          refine J.pu (fun _ _ _ _ k => lv_iadd X.1.1 X.1.2.1 dL_law_1748 k) ?_
          refine J.aI0 X dL_law_1749 (fun v1749 h1749 => ?_)
          refine J.bind (fun o1750 g1750 => ?_)
          refine J.bd' (fun v1750 S1750 h1750 => ?_)
          refine J.cV (q := (RX6, TX6, 26)) (ci := 5) (As := [.int v1749]) (rest := []) (s2 := [.int v1750]) X ⟨rfl, rfl⟩ (jmcw (fun A hm σ9 hs M => ct_X6_tick l hm σ9 n M v1749)) h1750 (fun _ _ => cwV 1 X.1.2.2.2.2 (lw_V q3264 q3265 q3266 q174 q3267) rfl rfl rfl (by decide +kernel) ⟨(Nat.le_of_ble_eq_true rfl), (Nat.le_of_ble_eq_true rfl)⟩) g1750 rfl rfl hl.1 rfl rfl (Nat.le_of_ble_eq_true rfl) dL_law_1750 ?_
          refine J.istore (lv' := [(6, .int v1750), (5, .int v1738), (0, va_rf a0), (1, va_rf x1_23), (2, va_rf x2_23), (3, va_rf x3_23), (4, .int x4_23)]) X.1.1 X.1.2.1 dL_law_1753 hl (by decide) (by first | rfl | simp [va_rf_cat, jcI, jcA, jcJ, jcD, jcF]) (fun ls hl => ?_)
          refine J.pu (fun _ _ _ _ k => W.rload_n X.1.1 X.1.2.1 dL_law_1755 rfl (lv_at hl 4 rfl) k) ?_
          refine J.bind (fun o1756 g1756 => ?_)
          refine J.bind (fun v1756 h1756 => ?_)
          refine J.cV (q := (RX6, TX6, 26)) (ci := 5) (As := []) (rest := []) (s2 := [.int v1756]) X ⟨rfl, rfl⟩ (jmcr (fun A hm σ9 hs M => ct_X6_thrown l hm σ9 n M)) (jrd_of h1756) (fun _ _ => cwV 0 X.1.2.2.2.2 (lw_V q2809 q2810 q2811 q174 q2812) rfl rfl rfl (by decide +kernel) ⟨(Nat.le_of_ble_eq_true rfl), (Nat.le_of_ble_eq_true rfl)⟩) g1756 rfl rfl hl.1 rfl rfl (Nat.le_of_ble_eq_true rfl) dL_law_1756 ?_
          refine J.pu (fun _ _ _ _ k => lv_iload X.1.1 X.1.2.1 dL_law_1759 (lv_at hl 1 rfl) k) ?_
          refine J.br (fun _ _ _ _ ka kb => lv_icmp_eq (tgt := 1766) X.1.1 X.1.2.1 dL_law_1761 (by decide) ka kb) (fun c1761 => ?_) (fun c1761 => ?_)
          · refine J.pu (fun _ _ _ _ k => lv_iload X.1.1 X.1.2.1 dL_law_1766 (lv_at hl 1 rfl) k) ?_
            refine J.br (fun _ _ _ _ ka kb => lv_if_ne (tgt := 1783) X.1.1 X.1.2.1 dL_law_1768 (by decide) kb ka) (fun c1768 => ?_) (fun c1768 => ?_)
            · refine J.pu (fun _ _ _ _ k => W.rload_n X.1.1 X.1.2.1 dL_law_1771 rfl (lv_at hl 5 rfl) k) ?_
              refine J.pu (fun _ _ _ _ k => lv_iconst (v := 0) X.1.1 X.1.2.1 dL_law_1772 (by decide) k) ?_
              refine J.aJ' X dL_law_1773 (fun v1773 h1773 => ?_)
              refine J.pu (fun _ _ _ _ k => lv_iload X.1.1 X.1.2.1 dL_law_1774 (lv_at hl 0 rfl) k) ?_
              refine J.pu (fun _ _ _ _ k => lv_i2l (v := v1750.toInt64) X.1.1 X.1.2.1 dL_law_1776 rfl k) ?_
              refine J.pu (fun _ _ _ _ k => W.lcmp X.1.1 X.1.2.1 dL_law_1777 k) ?_
              refine J.br (fun _ _ _ _ ka kb => lv_if_eq (tgt := 1783) X.1.1 X.1.2.1 dL_law_1778 (by decide) ka kb) (fun c1778 => ?_) (fun c1778 => ?_)
              · refine J.pu (fun _ _ _ _ k => lv_goto (tgt := 2202) X.1.1 X.1.2.1 dL_law_1783 (by decide) k) ?_
                exact j2202 x4_23 S1750 ls (lv_sub hl [2, 3, 4, 5, 6] rfl)
              · refine J.pu (fun _ _ _ _ k => lv_iconst (v := 0) X.1.1 X.1.2.1 dL_law_1781 (by decide) k) ?_
                exact J.zret (vr := fun t : Int32 × jH => jrI t.1) (fin := Prod.snd) (t := t) X hr (by decide) (by rfl) (by rfl) dL_law_1782
            · refine J.pu (fun _ _ _ _ k => lv_goto (tgt := 2202) X.1.1 X.1.2.1 dL_law_1783 (by decide) k) ?_
              exact j2202 x4_23 S1750 ls (lv_sub hl [2, 3, 4, 5, 6] rfl)
          · refine J.pu (fun _ _ _ _ k => lv_iconst (v := 0) X.1.1 X.1.2.1 dL_law_1764 (by decide) k) ?_
            exact J.zret (vr := fun t : Int32 × jH => jrI t.1) (fin := Prod.snd) (t := t) X hr (by decide) (by rfl) (by rfl) dL_law_1765
        refine J.ite (fun c40_32 => ?_) (fun c40_32 => ?_)
        · refine J.pu (fun _ _ _ _ k => lv_tableIn (tgt := 1786) (off := 1746) X.1.1 X.1.2.1 dL_law_40 (by rw [c40_32]; decide) (by rw [c40_32]; decide) (by rw [c40_32]; decide) (by decide) k) ?_
          refine J.pu (fun _ _ _ _ k => W.rload_n X.1.1 X.1.2.1 dL_law_1786 rfl (lv_at hl 1 rfl) k) ?_
          refine J.pu (fun _ _ _ _ k => W.rload_n X.1.1 X.1.2.1 dL_law_1787 rfl (lv_at hl 0 rfl) k) ?_
          refine J.pu (fun _ _ _ _ k => lv_iload X.1.1 X.1.2.1 dL_law_1788 (lv_at hl 4 rfl) k) ?_
          refine J.pu (fun _ _ _ _ k => lv_iconst (v := 1) X.1.1 X.1.2.1 dL_law_1790 (by decide) k) ?_
          refine J.pu (fun _ _ _ _ k => lv_iadd X.1.1 X.1.2.1 dL_law_1791 k) ?_
          refine J.aI0 X dL_law_1792 (fun v1792 h1792 => ?_)
          refine J.pu (fun _ _ _ _ k => W.rload_n X.1.1 X.1.2.1 dL_law_1793 rfl (lv_at hl 3 rfl) k) ?_
          refine J.bd' (fun v1794 S1794 h1794 => ?_)
          refine J.cSW (hh := [(0, 9, 12, 22), (0, 9, 15, 73)]) (As := [va_rf x1_23, .int v1792, va_rf x3_23]) (rest := []) (s2 := [.int v1794]) X ⟨rfl, rfl⟩ (ct_X0_slip l hfl G n B23 x1_23 v1792 x3_23) h1794 (fun _ _ => vx_cwSW 3 X.1.2.2.2.2 (lw_SW q2646 q2647 q137 q2648) rfl rfl rfl (by decide +kernel) ⟨(Nat.le_of_ble_eq_true rfl), (Nat.le_of_ble_eq_true rfl)⟩) rfl hl.1 rfl rfl (Nat.le_of_ble_eq_true rfl) dL_law_1794 ?_
          refine J.istore (lv' := [(5, .int v1794), (0, va_rf a0), (1, va_rf x1_23), (2, va_rf x2_23), (3, va_rf x3_23), (4, .int x4_23)]) X.1.1 X.1.2.1 dL_law_1797 hl (by decide) (by first | rfl | simp [va_rf_cat, jcI, jcA, jcJ, jcD, jcF]) (fun ls hl => ?_)
          refine J.pu (fun _ _ _ _ k => W.rload_n X.1.1 X.1.2.1 dL_law_1799 rfl (lv_at hl 3 rfl) k) ?_
          refine J.pu (fun _ _ _ _ k => W.rload_n X.1.1 X.1.2.1 dL_law_1800 rfl (lv_at hl 1 rfl) k) ?_
          refine J.pu (fun _ _ _ _ k => lv_iload X.1.1 X.1.2.1 dL_law_1801 (lv_at hl 5 rfl) k) ?_
          refine J.pu (fun _ _ _ _ k => lv_iconst (v := 1) X.1.1 X.1.2.1 dL_law_1803 (by decide) k) ?_
          refine J.pu (fun _ _ _ _ k => lv_iadd X.1.1 X.1.2.1 dL_law_1804 k) ?_
          refine J.aI0 X dL_law_1805 (fun v1805 h1805 => ?_)
          refine J.bind (fun o1806 g1806 => ?_)
          refine J.bd' (fun v1806 S1806 h1806 => ?_)
          refine J.cV (q := (RX6, TX6, 26)) (ci := 5) (As := [.int v1805]) (rest := []) (s2 := [.int v1806]) X ⟨rfl, rfl⟩ (jmcw (fun A hm σ9 hs M => ct_X6_slip l hm σ9 n M v1805)) h1806 (fun _ _ => cwV 1 X.1.2.2.2.2 (lw_V q3268 q3269 q3270 q174 q3271) rfl rfl rfl (by decide +kernel) ⟨(Nat.le_of_ble_eq_true rfl), (Nat.le_of_ble_eq_true rfl)⟩) g1806 rfl rfl hl.1 rfl rfl (Nat.le_of_ble_eq_true rfl) dL_law_1806 ?_
          refine J.istore (lv' := [(6, .int v1806), (5, .int v1794), (0, va_rf a0), (1, va_rf x1_23), (2, va_rf x2_23), (3, va_rf x3_23), (4, .int x4_23)]) X.1.1 X.1.2.1 dL_law_1809 hl (by decide) (by first | rfl | simp [va_rf_cat, jcI, jcA, jcJ, jcD, jcF]) (fun ls hl => ?_)
          refine J.pu (fun _ _ _ _ k => W.rload_n X.1.1 X.1.2.1 dL_law_1811 rfl (lv_at hl 4 rfl) k) ?_
          refine J.bind (fun o1812 g1812 => ?_)
          refine J.bind (fun v1812 h1812 => ?_)
          refine J.cV (q := (RX6, TX6, 26)) (ci := 5) (As := []) (rest := []) (s2 := [.int v1812]) X ⟨rfl, rfl⟩ (jmcr (fun A hm σ9 hs M => ct_X6_thrown l hm σ9 n M)) (jrd_of h1812) (fun _ _ => cwV 0 X.1.2.2.2.2 (lw_V q2809 q2810 q2811 q174 q2812) rfl rfl rfl (by decide +kernel) ⟨(Nat.le_of_ble_eq_true rfl), (Nat.le_of_ble_eq_true rfl)⟩) g1812 rfl rfl hl.1 rfl rfl (Nat.le_of_ble_eq_true rfl) dL_law_1812 ?_
          refine J.pu (fun _ _ _ _ k => lv_iload X.1.1 X.1.2.1 dL_law_1815 (lv_at hl 1 rfl) k) ?_
          refine J.br (fun _ _ _ _ ka kb => lv_icmp_eq (tgt := 1822) X.1.1 X.1.2.1 dL_law_1817 (by decide) ka kb) (fun c1817 => ?_) (fun c1817 => ?_)
          · refine J.pu (fun _ _ _ _ k => lv_iload X.1.1 X.1.2.1 dL_law_1822 (lv_at hl 1 rfl) k) ?_
            refine J.br (fun _ _ _ _ ka kb => lv_if_ne (tgt := 1839) X.1.1 X.1.2.1 dL_law_1824 (by decide) kb ka) (fun c1824 => ?_) (fun c1824 => ?_)
            · refine J.pu (fun _ _ _ _ k => W.rload_n X.1.1 X.1.2.1 dL_law_1827 rfl (lv_at hl 5 rfl) k) ?_
              refine J.pu (fun _ _ _ _ k => lv_iconst (v := 0) X.1.1 X.1.2.1 dL_law_1828 (by decide) k) ?_
              refine J.aJ' X dL_law_1829 (fun v1829 h1829 => ?_)
              refine J.pu (fun _ _ _ _ k => lv_iload X.1.1 X.1.2.1 dL_law_1830 (lv_at hl 0 rfl) k) ?_
              refine J.pu (fun _ _ _ _ k => lv_i2l (v := v1806.toInt64) X.1.1 X.1.2.1 dL_law_1832 rfl k) ?_
              refine J.pu (fun _ _ _ _ k => W.lcmp X.1.1 X.1.2.1 dL_law_1833 k) ?_
              refine J.br (fun _ _ _ _ ka kb => lv_if_eq (tgt := 1839) X.1.1 X.1.2.1 dL_law_1834 (by decide) ka kb) (fun c1834 => ?_) (fun c1834 => ?_)
              · refine J.pu (fun _ _ _ _ k => lv_goto (tgt := 2202) X.1.1 X.1.2.1 dL_law_1839 (by decide) k) ?_
                exact j2202 x4_23 S1806 ls (lv_sub hl [2, 3, 4, 5, 6] rfl)
              · refine J.pu (fun _ _ _ _ k => lv_iconst (v := 0) X.1.1 X.1.2.1 dL_law_1837 (by decide) k) ?_
                exact J.zret (vr := fun t : Int32 × jH => jrI t.1) (fin := Prod.snd) (t := t) X hr (by decide) (by rfl) (by rfl) dL_law_1838
            · refine J.pu (fun _ _ _ _ k => lv_goto (tgt := 2202) X.1.1 X.1.2.1 dL_law_1839 (by decide) k) ?_
              exact j2202 x4_23 S1806 ls (lv_sub hl [2, 3, 4, 5, 6] rfl)
          · refine J.pu (fun _ _ _ _ k => lv_iconst (v := 0) X.1.1 X.1.2.1 dL_law_1820 (by decide) k) ?_
            exact J.zret (vr := fun t : Int32 × jH => jrI t.1) (fin := Prod.snd) (t := t) X hr (by decide) (by rfl) (by rfl) dL_law_1821
        refine J.ite (fun c40_33 => ?_) (fun c40_33 => ?_)
        · refine J.pu (fun _ _ _ _ k => lv_tableIn (tgt := 1842) (off := 1802) X.1.1 X.1.2.1 dL_law_40 (by rw [c40_33]; decide) (by rw [c40_33]; decide) (by rw [c40_33]; decide) (by decide) k) ?_
          refine J.pu (fun _ _ _ _ k => W.rload_n X.1.1 X.1.2.1 dL_law_1842 rfl (lv_at hl 1 rfl) k) ?_
          refine J.pu (fun _ _ _ _ k => W.rload_n X.1.1 X.1.2.1 dL_law_1843 rfl (lv_at hl 0 rfl) k) ?_
          refine J.pu (fun _ _ _ _ k => lv_iload X.1.1 X.1.2.1 dL_law_1844 (lv_at hl 4 rfl) k) ?_
          refine J.pu (fun _ _ _ _ k => lv_iconst (v := 1) X.1.1 X.1.2.1 dL_law_1846 (by decide) k) ?_
          refine J.pu (fun _ _ _ _ k => lv_iadd X.1.1 X.1.2.1 dL_law_1847 k) ?_
          refine J.aI0 X dL_law_1848 (fun v1848 h1848 => ?_)
          refine J.pu (fun _ _ _ _ k => W.rload_n X.1.1 X.1.2.1 dL_law_1849 rfl (lv_at hl 3 rfl) k) ?_
          refine J.bd' (fun v1850 S1850 h1850 => ?_)
          refine J.cSW (hh := [(0, 9, 12, 22)]) (As := [va_rf x1_23, .int v1848, va_rf x3_23]) (rest := []) (s2 := [.int v1850]) X ⟨rfl, rfl⟩ (ct_X0_empty l hfl G n B23 x1_23 v1848 x3_23) h1850 (fun _ _ => vx_cwSW 3 X.1.2.2.2.2 (lw_SW q2654 q2655 q137 q2656) rfl rfl rfl (by decide +kernel) ⟨(Nat.le_of_ble_eq_true rfl), (Nat.le_of_ble_eq_true rfl)⟩) rfl hl.1 rfl rfl (Nat.le_of_ble_eq_true rfl) dL_law_1850 ?_
          refine J.istore (lv' := [(5, .int v1850), (0, va_rf a0), (1, va_rf x1_23), (2, va_rf x2_23), (3, va_rf x3_23), (4, .int x4_23)]) X.1.1 X.1.2.1 dL_law_1853 hl (by decide) (by first | rfl | simp [va_rf_cat, jcI, jcA, jcJ, jcD, jcF]) (fun ls hl => ?_)
          refine J.pu (fun _ _ _ _ k => W.rload_n X.1.1 X.1.2.1 dL_law_1855 rfl (lv_at hl 3 rfl) k) ?_
          refine J.pu (fun _ _ _ _ k => W.rload_n X.1.1 X.1.2.1 dL_law_1856 rfl (lv_at hl 1 rfl) k) ?_
          refine J.pu (fun _ _ _ _ k => lv_iload X.1.1 X.1.2.1 dL_law_1857 (lv_at hl 5 rfl) k) ?_
          refine J.pu (fun _ _ _ _ k => lv_iconst (v := 1) X.1.1 X.1.2.1 dL_law_1859 (by decide) k) ?_
          refine J.pu (fun _ _ _ _ k => lv_iadd X.1.1 X.1.2.1 dL_law_1860 k) ?_
          refine J.aI0 X dL_law_1861 (fun v1861 h1861 => ?_)
          refine J.bind (fun o1862 g1862 => ?_)
          refine J.bd' (fun v1862 S1862 h1862 => ?_)
          refine J.cV (q := (RX6, TX6, 26)) (ci := 5) (As := [.int v1861]) (rest := []) (s2 := [.int v1862]) X ⟨rfl, rfl⟩ (jmcw (fun A hm σ9 hs M => ct_X6_empty l hm σ9 n M v1861)) h1862 (fun _ _ => cwV 1 X.1.2.2.2.2 (lw_V q3272 q3273 q3274 q174 q3275) rfl rfl rfl (by decide +kernel) ⟨(Nat.le_of_ble_eq_true rfl), (Nat.le_of_ble_eq_true rfl)⟩) g1862 rfl rfl hl.1 rfl rfl (Nat.le_of_ble_eq_true rfl) dL_law_1862 ?_
          refine J.istore (lv' := [(6, .int v1862), (5, .int v1850), (0, va_rf a0), (1, va_rf x1_23), (2, va_rf x2_23), (3, va_rf x3_23), (4, .int x4_23)]) X.1.1 X.1.2.1 dL_law_1865 hl (by decide) (by first | rfl | simp [va_rf_cat, jcI, jcA, jcJ, jcD, jcF]) (fun ls hl => ?_)
          refine J.pu (fun _ _ _ _ k => W.rload_n X.1.1 X.1.2.1 dL_law_1867 rfl (lv_at hl 4 rfl) k) ?_
          refine J.bind (fun o1868 g1868 => ?_)
          refine J.bind (fun v1868 h1868 => ?_)
          refine J.cV (q := (RX6, TX6, 26)) (ci := 5) (As := []) (rest := []) (s2 := [.int v1868]) X ⟨rfl, rfl⟩ (jmcr (fun A hm σ9 hs M => ct_X6_thrown l hm σ9 n M)) (jrd_of h1868) (fun _ _ => cwV 0 X.1.2.2.2.2 (lw_V q2809 q2810 q2811 q174 q2812) rfl rfl rfl (by decide +kernel) ⟨(Nat.le_of_ble_eq_true rfl), (Nat.le_of_ble_eq_true rfl)⟩) g1868 rfl rfl hl.1 rfl rfl (Nat.le_of_ble_eq_true rfl) dL_law_1868 ?_
          refine J.pu (fun _ _ _ _ k => lv_iload X.1.1 X.1.2.1 dL_law_1871 (lv_at hl 1 rfl) k) ?_
          refine J.br (fun _ _ _ _ ka kb => lv_icmp_eq (tgt := 1878) X.1.1 X.1.2.1 dL_law_1873 (by decide) ka kb) (fun c1873 => ?_) (fun c1873 => ?_)
          · refine J.pu (fun _ _ _ _ k => lv_iload X.1.1 X.1.2.1 dL_law_1878 (lv_at hl 1 rfl) k) ?_
            refine J.br (fun _ _ _ _ ka kb => lv_if_ne (tgt := 1895) X.1.1 X.1.2.1 dL_law_1880 (by decide) kb ka) (fun c1880 => ?_) (fun c1880 => ?_)
            · refine J.pu (fun _ _ _ _ k => W.rload_n X.1.1 X.1.2.1 dL_law_1883 rfl (lv_at hl 5 rfl) k) ?_
              refine J.pu (fun _ _ _ _ k => lv_iconst (v := 0) X.1.1 X.1.2.1 dL_law_1884 (by decide) k) ?_
              refine J.aJ' X dL_law_1885 (fun v1885 h1885 => ?_)
              refine J.pu (fun _ _ _ _ k => lv_iload X.1.1 X.1.2.1 dL_law_1886 (lv_at hl 0 rfl) k) ?_
              refine J.pu (fun _ _ _ _ k => lv_i2l (v := v1862.toInt64) X.1.1 X.1.2.1 dL_law_1888 rfl k) ?_
              refine J.pu (fun _ _ _ _ k => W.lcmp X.1.1 X.1.2.1 dL_law_1889 k) ?_
              refine J.br (fun _ _ _ _ ka kb => lv_if_eq (tgt := 1895) X.1.1 X.1.2.1 dL_law_1890 (by decide) ka kb) (fun c1890 => ?_) (fun c1890 => ?_)
              · refine J.pu (fun _ _ _ _ k => lv_goto (tgt := 2202) X.1.1 X.1.2.1 dL_law_1895 (by decide) k) ?_
                exact j2202 x4_23 S1862 ls (lv_sub hl [2, 3, 4, 5, 6] rfl)
              · refine J.pu (fun _ _ _ _ k => lv_iconst (v := 0) X.1.1 X.1.2.1 dL_law_1893 (by decide) k) ?_
                exact J.zret (vr := fun t : Int32 × jH => jrI t.1) (fin := Prod.snd) (t := t) X hr (by decide) (by rfl) (by rfl) dL_law_1894
            · refine J.pu (fun _ _ _ _ k => lv_goto (tgt := 2202) X.1.1 X.1.2.1 dL_law_1895 (by decide) k) ?_
              exact j2202 x4_23 S1862 ls (lv_sub hl [2, 3, 4, 5, 6] rfl)
          · refine J.pu (fun _ _ _ _ k => lv_iconst (v := 0) X.1.1 X.1.2.1 dL_law_1876 (by decide) k) ?_
            exact J.zret (vr := fun t : Int32 × jH => jrI t.1) (fin := Prod.snd) (t := t) X hr (by decide) (by rfl) (by rfl) dL_law_1877
        refine J.ite (fun c40_34 => ?_) (fun c40_34 => ?_)
        · refine J.pu (fun _ _ _ _ k => lv_tableIn (tgt := 1898) (off := 1858) X.1.1 X.1.2.1 dL_law_40 (by rw [c40_34]; decide) (by rw [c40_34]; decide) (by rw [c40_34]; decide) (by decide) k) ?_
          refine J.pu (fun _ _ _ _ k => W.rload_n X.1.1 X.1.2.1 dL_law_1898 rfl (lv_at hl 1 rfl) k) ?_
          refine J.pu (fun _ _ _ _ k => W.rload_n X.1.1 X.1.2.1 dL_law_1899 rfl (lv_at hl 0 rfl) k) ?_
          refine J.pu (fun _ _ _ _ k => lv_iload X.1.1 X.1.2.1 dL_law_1900 (lv_at hl 4 rfl) k) ?_
          refine J.pu (fun _ _ _ _ k => lv_iconst (v := 1) X.1.1 X.1.2.1 dL_law_1902 (by decide) k) ?_
          refine J.pu (fun _ _ _ _ k => lv_iadd X.1.1 X.1.2.1 dL_law_1903 k) ?_
          refine J.aI0 X dL_law_1904 (fun v1904 h1904 => ?_)
          refine J.pu (fun _ _ _ _ k => W.rload_n X.1.1 X.1.2.1 dL_law_1905 rfl (lv_at hl 0 rfl) k) ?_
          refine J.pu (fun _ _ _ _ k => lv_iload X.1.1 X.1.2.1 dL_law_1906 (lv_at hl 4 rfl) k) ?_
          refine J.pu (fun _ _ _ _ k => lv_iconst (v := 2) X.1.1 X.1.2.1 dL_law_1908 (by decide) k) ?_
          refine J.pu (fun _ _ _ _ k => lv_iadd X.1.1 X.1.2.1 dL_law_1909 k) ?_
          refine J.aI0 X dL_law_1910 (fun v1910 h1910 => ?_)
          refine J.br (fun _ _ _ _ ka kb => lv_if_eq (tgt := 1918) X.1.1 X.1.2.1 dL_law_1911 (by decide) ka kb) (fun c1911 => ?_) (fun c1911 => ?_)
          · refine J.pu (fun _ _ _ _ k => lv_iconst (v := 0) X.1.1 X.1.2.1 dL_law_1918 (by decide) k) ?_
            exact j1919 x4_23 x1_23 v1904 0 B23 ls (lv_sub hl [0, 1, 2, 3, 4] rfl)
          · refine J.pu (fun _ _ _ _ k => lv_iconst (v := 1) X.1.1 X.1.2.1 dL_law_1914 (by decide) k) ?_
            refine J.pu (fun _ _ _ _ k => lv_goto (tgt := 1919) X.1.1 X.1.2.1 dL_law_1915 (by decide) k) ?_
            exact j1919 x4_23 x1_23 v1904 1 B23 ls (lv_sub hl [0, 1, 2, 3, 4] rfl)
        refine J.ite (fun c40_35 => ?_) (fun c40_35 => ?_)
        · refine J.pu (fun _ _ _ _ k => lv_tableIn (tgt := 1982) (off := 1942) X.1.1 X.1.2.1 dL_law_40 (by rw [c40_35]; decide) (by rw [c40_35]; decide) (by rw [c40_35]; decide) (by decide) k) ?_
          refine J.pu (fun _ _ _ _ k => W.rload_n X.1.1 X.1.2.1 dL_law_1982 rfl (lv_at hl 1 rfl) k) ?_
          refine J.pu (fun _ _ _ _ k => W.rload_n X.1.1 X.1.2.1 dL_law_1983 rfl (lv_at hl 0 rfl) k) ?_
          refine J.pu (fun _ _ _ _ k => lv_iload X.1.1 X.1.2.1 dL_law_1984 (lv_at hl 4 rfl) k) ?_
          refine J.pu (fun _ _ _ _ k => lv_iconst (v := 1) X.1.1 X.1.2.1 dL_law_1986 (by decide) k) ?_
          refine J.pu (fun _ _ _ _ k => lv_iadd X.1.1 X.1.2.1 dL_law_1987 k) ?_
          refine J.aI0 X dL_law_1988 (fun v1988 h1988 => ?_)
          refine J.pu (fun _ _ _ _ k => W.rload_n X.1.1 X.1.2.1 dL_law_1989 rfl (lv_at hl 0 rfl) k) ?_
          refine J.pu (fun _ _ _ _ k => lv_iload X.1.1 X.1.2.1 dL_law_1990 (lv_at hl 4 rfl) k) ?_
          refine J.pu (fun _ _ _ _ k => lv_iconst (v := 2) X.1.1 X.1.2.1 dL_law_1992 (by decide) k) ?_
          refine J.pu (fun _ _ _ _ k => lv_iadd X.1.1 X.1.2.1 dL_law_1993 k) ?_
          refine J.aI0 X dL_law_1994 (fun v1994 h1994 => ?_)
          refine J.pu (fun _ _ _ _ k => W.rload_n X.1.1 X.1.2.1 dL_law_1995 rfl (lv_at hl 3 rfl) k) ?_
          refine J.bd' (fun v1996 S1996 h1996 => ?_)
          refine J.cSW (hh := [(0, 10, 13, 22), (0, 10, 17, 13)]) (As := [va_rf x1_23, .int v1988, .int v1994, va_rf x3_23]) (rest := []) (s2 := [.int v1996]) X ⟨rfl, rfl⟩ (ct_X0_set l hfl G n B23 x1_23 v1988 v1994 x3_23) h1996 (fun _ _ => vx_cwSW 4 X.1.2.2.2.2 (lw_SW q2668 q2669 q137 q2670) rfl rfl rfl (by decide +kernel) ⟨(Nat.le_of_ble_eq_true rfl), (Nat.le_of_ble_eq_true rfl)⟩) rfl hl.1 rfl rfl (Nat.le_of_ble_eq_true rfl) dL_law_1996 ?_
          refine J.istore (lv' := [(5, .int v1996), (0, va_rf a0), (1, va_rf x1_23), (2, va_rf x2_23), (3, va_rf x3_23), (4, .int x4_23)]) X.1.1 X.1.2.1 dL_law_1999 hl (by decide) (by first | rfl | simp [va_rf_cat, jcI, jcA, jcJ, jcD, jcF]) (fun ls hl => ?_)
          refine J.pu (fun _ _ _ _ k => W.rload_n X.1.1 X.1.2.1 dL_law_2001 rfl (lv_at hl 3 rfl) k) ?_
          refine J.pu (fun _ _ _ _ k => W.rload_n X.1.1 X.1.2.1 dL_law_2002 rfl (lv_at hl 1 rfl) k) ?_
          refine J.pu (fun _ _ _ _ k => lv_iload X.1.1 X.1.2.1 dL_law_2003 (lv_at hl 5 rfl) k) ?_
          refine J.pu (fun _ _ _ _ k => lv_iconst (v := 1) X.1.1 X.1.2.1 dL_law_2005 (by decide) k) ?_
          refine J.pu (fun _ _ _ _ k => lv_iadd X.1.1 X.1.2.1 dL_law_2006 k) ?_
          refine J.aI0 X dL_law_2007 (fun v2007 h2007 => ?_)
          refine J.pu (fun _ _ _ _ k => W.rload_n X.1.1 X.1.2.1 dL_law_2008 rfl (lv_at hl 1 rfl) k) ?_
          refine J.pu (fun _ _ _ _ k => lv_iload X.1.1 X.1.2.1 dL_law_2009 (lv_at hl 5 rfl) k) ?_
          refine J.pu (fun _ _ _ _ k => lv_iconst (v := 2) X.1.1 X.1.2.1 dL_law_2011 (by decide) k) ?_
          refine J.pu (fun _ _ _ _ k => lv_iadd X.1.1 X.1.2.1 dL_law_2012 k) ?_
          refine J.aI0 X dL_law_2013 (fun v2013 h2013 => ?_)
          refine J.bind (fun o2014 g2014 => ?_)
          refine J.bd' (fun v2014 S2014 h2014 => ?_)
          refine J.cV (q := (RX6, TX6, 26)) (ci := 5) (As := [.int v2007, .int v2013]) (rest := []) (s2 := [.int v2014]) X ⟨rfl, rfl⟩ (jmcw (fun A hm σ9 hs M => ct_X6_set l hm σ9 n M v2007 v2013)) h2014 (fun _ _ => cwV 2 X.1.2.2.2.2 (lw_V q3280 q3281 q3282 q174 q3283) rfl rfl rfl (by decide +kernel) ⟨(Nat.le_of_ble_eq_true rfl), (Nat.le_of_ble_eq_true rfl)⟩) g2014 rfl rfl hl.1 rfl rfl (Nat.le_of_ble_eq_true rfl) dL_law_2014 ?_
          refine J.istore (lv' := [(6, .int v2014), (5, .int v1996), (0, va_rf a0), (1, va_rf x1_23), (2, va_rf x2_23), (3, va_rf x3_23), (4, .int x4_23)]) X.1.1 X.1.2.1 dL_law_2017 hl (by decide) (by first | rfl | simp [va_rf_cat, jcI, jcA, jcJ, jcD, jcF]) (fun ls hl => ?_)
          refine J.pu (fun _ _ _ _ k => W.rload_n X.1.1 X.1.2.1 dL_law_2019 rfl (lv_at hl 4 rfl) k) ?_
          refine J.bind (fun o2020 g2020 => ?_)
          refine J.bind (fun v2020 h2020 => ?_)
          refine J.cV (q := (RX6, TX6, 26)) (ci := 5) (As := []) (rest := []) (s2 := [.int v2020]) X ⟨rfl, rfl⟩ (jmcr (fun A hm σ9 hs M => ct_X6_thrown l hm σ9 n M)) (jrd_of h2020) (fun _ _ => cwV 0 X.1.2.2.2.2 (lw_V q2809 q2810 q2811 q174 q2812) rfl rfl rfl (by decide +kernel) ⟨(Nat.le_of_ble_eq_true rfl), (Nat.le_of_ble_eq_true rfl)⟩) g2020 rfl rfl hl.1 rfl rfl (Nat.le_of_ble_eq_true rfl) dL_law_2020 ?_
          refine J.pu (fun _ _ _ _ k => lv_iload X.1.1 X.1.2.1 dL_law_2023 (lv_at hl 1 rfl) k) ?_
          refine J.br (fun _ _ _ _ ka kb => lv_icmp_eq (tgt := 2030) X.1.1 X.1.2.1 dL_law_2025 (by decide) ka kb) (fun c2025 => ?_) (fun c2025 => ?_)
          · refine J.pu (fun _ _ _ _ k => lv_iload X.1.1 X.1.2.1 dL_law_2030 (lv_at hl 1 rfl) k) ?_
            refine J.br (fun _ _ _ _ ka kb => lv_if_ne (tgt := 2047) X.1.1 X.1.2.1 dL_law_2032 (by decide) kb ka) (fun c2032 => ?_) (fun c2032 => ?_)
            · refine J.pu (fun _ _ _ _ k => W.rload_n X.1.1 X.1.2.1 dL_law_2035 rfl (lv_at hl 5 rfl) k) ?_
              refine J.pu (fun _ _ _ _ k => lv_iconst (v := 0) X.1.1 X.1.2.1 dL_law_2036 (by decide) k) ?_
              refine J.aJ' X dL_law_2037 (fun v2037 h2037 => ?_)
              refine J.pu (fun _ _ _ _ k => lv_iload X.1.1 X.1.2.1 dL_law_2038 (lv_at hl 0 rfl) k) ?_
              refine J.pu (fun _ _ _ _ k => lv_i2l (v := v2014.toInt64) X.1.1 X.1.2.1 dL_law_2040 rfl k) ?_
              refine J.pu (fun _ _ _ _ k => W.lcmp X.1.1 X.1.2.1 dL_law_2041 k) ?_
              refine J.br (fun _ _ _ _ ka kb => lv_if_eq (tgt := 2047) X.1.1 X.1.2.1 dL_law_2042 (by decide) ka kb) (fun c2042 => ?_) (fun c2042 => ?_)
              · refine J.pu (fun _ _ _ _ k => lv_goto (tgt := 2202) X.1.1 X.1.2.1 dL_law_2047 (by decide) k) ?_
                exact j2202 x4_23 S2014 ls (lv_sub hl [2, 3, 4, 5, 6] rfl)
              · refine J.pu (fun _ _ _ _ k => lv_iconst (v := 0) X.1.1 X.1.2.1 dL_law_2045 (by decide) k) ?_
                exact J.zret (vr := fun t : Int32 × jH => jrI t.1) (fin := Prod.snd) (t := t) X hr (by decide) (by rfl) (by rfl) dL_law_2046
            · refine J.pu (fun _ _ _ _ k => lv_goto (tgt := 2202) X.1.1 X.1.2.1 dL_law_2047 (by decide) k) ?_
              exact j2202 x4_23 S2014 ls (lv_sub hl [2, 3, 4, 5, 6] rfl)
          · refine J.pu (fun _ _ _ _ k => lv_iconst (v := 0) X.1.1 X.1.2.1 dL_law_2028 (by decide) k) ?_
            exact J.zret (vr := fun t : Int32 × jH => jrI t.1) (fin := Prod.snd) (t := t) X hr (by decide) (by rfl) (by rfl) dL_law_2029
        refine J.ite (fun c40_36 => ?_) (fun c40_36 => ?_)
        · refine J.pu (fun _ _ _ _ k => lv_tableIn (tgt := 2050) (off := 2010) X.1.1 X.1.2.1 dL_law_40 (by rw [c40_36]; decide) (by rw [c40_36]; decide) (by rw [c40_36]; decide) (by decide) k) ?_
          refine J.pu (fun _ _ _ _ k => W.rload_n X.1.1 X.1.2.1 dL_law_2050 rfl (lv_at hl 1 rfl) k) ?_
          refine J.pu (fun _ _ _ _ k => W.rload_n X.1.1 X.1.2.1 dL_law_2051 rfl (lv_at hl 3 rfl) k) ?_
          refine J.bd' (fun v2052 S2052 h2052 => ?_)
          refine J.cSW (hh := [(0, 8, 11, 95)]) (As := [va_rf x1_23, va_rf x3_23]) (rest := []) (s2 := [.int v2052]) X ⟨rfl, rfl⟩ (ct_X0_undo l hfl G n B23 x1_23 x3_23) h2052 (fun _ _ => vx_cwSW 2 X.1.2.2.2.2 (lw_SW q2677 q2678 q137 q2679) rfl rfl rfl (by decide +kernel) ⟨(Nat.le_of_ble_eq_true rfl), (Nat.le_of_ble_eq_true rfl)⟩) rfl hl.1 rfl rfl (Nat.le_of_ble_eq_true rfl) dL_law_2052 ?_
          refine J.istore (lv' := [(5, .int v2052), (0, va_rf a0), (1, va_rf x1_23), (2, va_rf x2_23), (3, va_rf x3_23), (4, .int x4_23)]) X.1.1 X.1.2.1 dL_law_2055 hl (by decide) (by first | rfl | simp [va_rf_cat, jcI, jcA, jcJ, jcD, jcF]) (fun ls hl => ?_)
          refine J.pu (fun _ _ _ _ k => W.rload_n X.1.1 X.1.2.1 dL_law_2057 rfl (lv_at hl 3 rfl) k) ?_
          refine J.bind (fun o2058 g2058 => ?_)
          refine J.bd' (fun v2058 S2058 h2058 => ?_)
          refine J.cV (q := (RX6, TX6, 26)) (ci := 5) (As := []) (rest := []) (s2 := [.int v2058]) X ⟨rfl, rfl⟩ (jmcw (fun A hm σ9 hs M => ct_X6_undo l hm σ9 n M)) h2058 (fun _ _ => cwV 0 X.1.2.2.2.2 (lw_V q3284 q3285 q3286 q174 q3287) rfl rfl rfl (by decide +kernel) ⟨(Nat.le_of_ble_eq_true rfl), (Nat.le_of_ble_eq_true rfl)⟩) g2058 rfl rfl hl.1 rfl rfl (Nat.le_of_ble_eq_true rfl) dL_law_2058 ?_
          refine J.istore (lv' := [(6, .int v2058), (5, .int v2052), (0, va_rf a0), (1, va_rf x1_23), (2, va_rf x2_23), (3, va_rf x3_23), (4, .int x4_23)]) X.1.1 X.1.2.1 dL_law_2061 hl (by decide) (by first | rfl | simp [va_rf_cat, jcI, jcA, jcJ, jcD, jcF]) (fun ls hl => ?_)
          refine J.pu (fun _ _ _ _ k => W.rload_n X.1.1 X.1.2.1 dL_law_2063 rfl (lv_at hl 4 rfl) k) ?_
          refine J.bind (fun o2064 g2064 => ?_)
          refine J.bind (fun v2064 h2064 => ?_)
          refine J.cV (q := (RX6, TX6, 26)) (ci := 5) (As := []) (rest := []) (s2 := [.int v2064]) X ⟨rfl, rfl⟩ (jmcr (fun A hm σ9 hs M => ct_X6_thrown l hm σ9 n M)) (jrd_of h2064) (fun _ _ => cwV 0 X.1.2.2.2.2 (lw_V q2809 q2810 q2811 q174 q2812) rfl rfl rfl (by decide +kernel) ⟨(Nat.le_of_ble_eq_true rfl), (Nat.le_of_ble_eq_true rfl)⟩) g2064 rfl rfl hl.1 rfl rfl (Nat.le_of_ble_eq_true rfl) dL_law_2064 ?_
          refine J.pu (fun _ _ _ _ k => lv_iload X.1.1 X.1.2.1 dL_law_2067 (lv_at hl 1 rfl) k) ?_
          refine J.br (fun _ _ _ _ ka kb => lv_icmp_eq (tgt := 2074) X.1.1 X.1.2.1 dL_law_2069 (by decide) ka kb) (fun c2069 => ?_) (fun c2069 => ?_)
          · refine J.pu (fun _ _ _ _ k => lv_iload X.1.1 X.1.2.1 dL_law_2074 (lv_at hl 1 rfl) k) ?_
            refine J.br (fun _ _ _ _ ka kb => lv_if_ne (tgt := 2091) X.1.1 X.1.2.1 dL_law_2076 (by decide) kb ka) (fun c2076 => ?_) (fun c2076 => ?_)
            · refine J.pu (fun _ _ _ _ k => W.rload_n X.1.1 X.1.2.1 dL_law_2079 rfl (lv_at hl 5 rfl) k) ?_
              refine J.pu (fun _ _ _ _ k => lv_iconst (v := 0) X.1.1 X.1.2.1 dL_law_2080 (by decide) k) ?_
              refine J.aJ' X dL_law_2081 (fun v2081 h2081 => ?_)
              refine J.pu (fun _ _ _ _ k => lv_iload X.1.1 X.1.2.1 dL_law_2082 (lv_at hl 0 rfl) k) ?_
              refine J.pu (fun _ _ _ _ k => lv_i2l (v := v2058.toInt64) X.1.1 X.1.2.1 dL_law_2084 rfl k) ?_
              refine J.pu (fun _ _ _ _ k => W.lcmp X.1.1 X.1.2.1 dL_law_2085 k) ?_
              refine J.br (fun _ _ _ _ ka kb => lv_if_eq (tgt := 2091) X.1.1 X.1.2.1 dL_law_2086 (by decide) ka kb) (fun c2086 => ?_) (fun c2086 => ?_)
              · refine J.pu (fun _ _ _ _ k => lv_goto (tgt := 2202) X.1.1 X.1.2.1 dL_law_2091 (by decide) k) ?_
                exact j2202 x4_23 S2058 ls (lv_sub hl [2, 3, 4, 5, 6] rfl)
              · refine J.pu (fun _ _ _ _ k => lv_iconst (v := 0) X.1.1 X.1.2.1 dL_law_2089 (by decide) k) ?_
                exact J.zret (vr := fun t : Int32 × jH => jrI t.1) (fin := Prod.snd) (t := t) X hr (by decide) (by rfl) (by rfl) dL_law_2090
            · refine J.pu (fun _ _ _ _ k => lv_goto (tgt := 2202) X.1.1 X.1.2.1 dL_law_2091 (by decide) k) ?_
              exact j2202 x4_23 S2058 ls (lv_sub hl [2, 3, 4, 5, 6] rfl)
          · refine J.pu (fun _ _ _ _ k => lv_iconst (v := 0) X.1.1 X.1.2.1 dL_law_2072 (by decide) k) ?_
            exact J.zret (vr := fun t : Int32 × jH => jrI t.1) (fin := Prod.snd) (t := t) X hr (by decide) (by rfl) (by rfl) dL_law_2073
        refine J.ite (fun c40_37 => ?_) (fun c40_37 => ?_)
        · refine J.pu (fun _ _ _ _ k => lv_tableIn (tgt := 2094) (off := 2054) X.1.1 X.1.2.1 dL_law_40 (by rw [c40_37]; decide) (by rw [c40_37]; decide) (by rw [c40_37]; decide) (by decide) k) ?_
          refine J.pu (fun _ _ _ _ k => W.rload_n X.1.1 X.1.2.1 dL_law_2094 rfl (lv_at hl 1 rfl) k) ?_
          refine J.bind (fun o2095 g2095 => ?_)
          refine J.bd' (fun v2095 S2095 h2095 => ?_)
          refine J.cV (q := (RX1, TX1, 9)) (ci := 0) (As := []) (rest := []) (s2 := [.int v2095]) X ⟨rfl, rfl⟩ (ct_X1_printLoop l G n B23 o2095) h2095 (fun _ _ => cwV 0 X.1.2.2.2.2 (lw_V q2277 q2278 q2279 q138 q2280) rfl rfl rfl (by decide +kernel) ⟨(Nat.le_of_ble_eq_true rfl), (Nat.le_of_ble_eq_true rfl)⟩) g2095 rfl rfl hl.1 rfl rfl (Nat.le_of_ble_eq_true rfl) dL_law_2095 ?_
          refine J.pu (fun _ _ _ _ k => W.rload_n X.1.1 X.1.2.1 dL_law_2098 rfl (lv_at hl 2 rfl) k) ?_
          refine J.bind (fun o2099 g2099 => ?_)
          refine J.bd' (fun v2099 S2099 h2099 => ?_)
          refine J.cV (q := (RX6, TX6, 26)) (ci := 5) (As := []) (rest := [.int v2095]) (s2 := [.int v2099, .int v2095]) X ⟨rfl, rfl⟩ (jmcw (fun A hm σ9 hs M => ct_X6_printLoop l hm σ9 n M)) h2099 (fun _ _ => cwV 0 X.1.2.2.2.2 (lw_V q3288 q3289 q3290 q174 q3291) rfl rfl rfl (by decide +kernel) ⟨(Nat.le_of_ble_eq_true rfl), (Nat.le_of_ble_eq_true rfl)⟩) g2099 rfl rfl hl.1 rfl rfl (Nat.le_of_ble_eq_true rfl) dL_law_2099 ?_
          refine J.br (fun _ _ _ _ ka kb => lv_icmp_eq (tgt := 2202) X.1.1 X.1.2.1 dL_law_2102 (by decide) ka kb) (fun c2102 => ?_) (fun c2102 => ?_)
          · exact j2202 x4_23 S2099 ls (lv_sub hl [0, 1, 2, 3, 4] rfl)
          · refine J.pu (fun _ _ _ _ k => lv_iconst (v := 0) X.1.1 X.1.2.1 dL_law_2105 (by decide) k) ?_
            exact J.zret (vr := fun t : Int32 × jH => jrI t.1) (fin := Prod.snd) (t := t) X hr (by decide) (by rfl) (by rfl) dL_law_2106
        refine J.ite (fun c40_38 => ?_) (fun c40_38 => ?_)
        · refine J.pu (fun _ _ _ _ k => lv_tableIn (tgt := 2107) (off := 2067) X.1.1 X.1.2.1 dL_law_40 (by rw [c40_38]; decide) (by rw [c40_38]; decide) (by rw [c40_38]; decide) (by decide) k) ?_
          refine J.pu (fun _ _ _ _ k => W.rload_n X.1.1 X.1.2.1 dL_law_2107 rfl (lv_at hl 1 rfl) k) ?_
          refine J.bind (fun o2108 g2108 => ?_)
          refine J.bd' (fun v2108 S2108 h2108 => ?_)
          refine J.cV (q := (RX1, TX1, 9)) (ci := 0) (As := []) (rest := []) (s2 := [.int v2108]) X ⟨rfl, rfl⟩ (ct_X1_printChutes l G n B23 o2108) h2108 (fun _ _ => cwV 0 X.1.2.2.2.2 (lw_V q2353 q2354 q2355 q138 q2356) rfl rfl rfl (by decide +kernel) ⟨(Nat.le_of_ble_eq_true rfl), (Nat.le_of_ble_eq_true rfl)⟩) g2108 rfl rfl hl.1 rfl rfl (Nat.le_of_ble_eq_true rfl) dL_law_2108 ?_
          refine J.pu (fun _ _ _ _ k => W.rload_n X.1.1 X.1.2.1 dL_law_2111 rfl (lv_at hl 2 rfl) k) ?_
          refine J.bind (fun o2112 g2112 => ?_)
          refine J.bd' (fun v2112 S2112 h2112 => ?_)
          refine J.cV (q := (RX6, TX6, 26)) (ci := 5) (As := []) (rest := [.int v2108]) (s2 := [.int v2112, .int v2108]) X ⟨rfl, rfl⟩ (jmcw (fun A hm σ9 hs M => ct_X6_printChutes l hm σ9 n M)) h2112 (fun _ _ => cwV 0 X.1.2.2.2.2 (lw_V q3300 q3301 q3302 q174 q3303) rfl rfl rfl (by decide +kernel) ⟨(Nat.le_of_ble_eq_true rfl), (Nat.le_of_ble_eq_true rfl)⟩) g2112 rfl rfl hl.1 rfl rfl (Nat.le_of_ble_eq_true rfl) dL_law_2112 ?_
          refine J.br (fun _ _ _ _ ka kb => lv_icmp_eq (tgt := 2202) X.1.1 X.1.2.1 dL_law_2115 (by decide) ka kb) (fun c2115 => ?_) (fun c2115 => ?_)
          · exact j2202 x4_23 S2112 ls (lv_sub hl [0, 1, 2, 3, 4] rfl)
          · refine J.pu (fun _ _ _ _ k => lv_iconst (v := 0) X.1.1 X.1.2.1 dL_law_2118 (by decide) k) ?_
            exact J.zret (vr := fun t : Int32 × jH => jrI t.1) (fin := Prod.snd) (t := t) X hr (by decide) (by rfl) (by rfl) dL_law_2119
        refine J.ite (fun c40_39 => ?_) (fun c40_39 => ?_)
        · refine J.pu (fun _ _ _ _ k => lv_tableIn (tgt := 2120) (off := 2080) X.1.1 X.1.2.1 dL_law_40 (by rw [c40_39]; decide) (by rw [c40_39]; decide) (by rw [c40_39]; decide) (by decide) k) ?_
          refine J.pu (fun _ _ _ _ k => W.rload_n X.1.1 X.1.2.1 dL_law_2120 rfl (lv_at hl 1 rfl) k) ?_
          refine J.pu (fun _ _ _ _ k => W.rload_n X.1.1 X.1.2.1 dL_law_2121 rfl (lv_at hl 0 rfl) k) ?_
          refine J.pu (fun _ _ _ _ k => lv_iload X.1.1 X.1.2.1 dL_law_2122 (lv_at hl 4 rfl) k) ?_
          refine J.pu (fun _ _ _ _ k => lv_iconst (v := 1) X.1.1 X.1.2.1 dL_law_2124 (by decide) k) ?_
          refine J.pu (fun _ _ _ _ k => lv_iadd X.1.1 X.1.2.1 dL_law_2125 k) ?_
          refine J.aI0 X dL_law_2126 (fun v2126 h2126 => ?_)
          refine J.bind (fun o2127 g2127 => ?_)
          refine J.bind (fun v2127 h2127 => ?_)
          refine J.cV (q := (RX1, TX1, 9)) (ci := 0) (As := [.int v2126]) (rest := []) (s2 := [.int v2127]) X ⟨rfl, rfl⟩ (ct_X1_outputByte l G n B23 o2127 v2126) (jrd_of h2127) (fun _ _ => cwV 1 X.1.2.2.2.2 (lw_V q2364 q2365 q2366 q138 q2367) rfl rfl rfl (by decide +kernel) ⟨(Nat.le_of_ble_eq_true rfl), (Nat.le_of_ble_eq_true rfl)⟩) g2127 rfl rfl hl.1 rfl rfl (Nat.le_of_ble_eq_true rfl) dL_law_2127 ?_
          refine J.pu (fun _ _ _ _ k => W.rload_n X.1.1 X.1.2.1 dL_law_2130 rfl (lv_at hl 2 rfl) k) ?_
          refine J.pu (fun _ _ _ _ k => W.rload_n X.1.1 X.1.2.1 dL_law_2131 rfl (lv_at hl 0 rfl) k) ?_
          refine J.pu (fun _ _ _ _ k => lv_iload X.1.1 X.1.2.1 dL_law_2132 (lv_at hl 4 rfl) k) ?_
          refine J.pu (fun _ _ _ _ k => lv_iconst (v := 1) X.1.1 X.1.2.1 dL_law_2134 (by decide) k) ?_
          refine J.pu (fun _ _ _ _ k => lv_iadd X.1.1 X.1.2.1 dL_law_2135 k) ?_
          refine J.aI0 X dL_law_2136 (fun v2136 h2136 => ?_)
          refine J.bind (fun o2137 g2137 => ?_)
          refine J.bd' (fun v2137 S2137 h2137 => ?_)
          refine J.cV (q := (RX6, TX6, 26)) (ci := 5) (As := [.int v2136]) (rest := [.int v2127]) (s2 := [.int v2137, .int v2127]) X ⟨rfl, rfl⟩ (jmcw (fun A hm σ9 hs M => ct_X6_outputByte l hm σ9 n M v2136)) h2137 (fun _ _ => cwV 1 X.1.2.2.2.2 (lw_V q3308 q3309 q3310 q174 q3311) rfl rfl rfl (by decide +kernel) ⟨(Nat.le_of_ble_eq_true rfl), (Nat.le_of_ble_eq_true rfl)⟩) g2137 rfl rfl hl.1 rfl rfl (Nat.le_of_ble_eq_true rfl) dL_law_2137 ?_
          refine J.br (fun _ _ _ _ ka kb => lv_icmp_eq (tgt := 2202) X.1.1 X.1.2.1 dL_law_2140 (by decide) ka kb) (fun c2140 => ?_) (fun c2140 => ?_)
          · exact j2202 x4_23 S2137 ls (lv_sub hl [0, 1, 2, 3, 4] rfl)
          · refine J.pu (fun _ _ _ _ k => lv_iconst (v := 0) X.1.1 X.1.2.1 dL_law_2143 (by decide) k) ?_
            exact J.zret (vr := fun t : Int32 × jH => jrI t.1) (fin := Prod.snd) (t := t) X hr (by decide) (by rfl) (by rfl) dL_law_2144
        refine J.ite (fun c40_40 => ?_) (fun c40_40 => ?_)
        · refine J.pu (fun _ _ _ _ k => lv_tableIn (tgt := 2145) (off := 2105) X.1.1 X.1.2.1 dL_law_40 (by rw [c40_40]; decide) (by rw [c40_40]; decide) (by rw [c40_40]; decide) (by decide) k) ?_
          refine J.pu (fun _ _ _ _ k => W.rload_n X.1.1 X.1.2.1 dL_law_2145 rfl (lv_at hl 1 rfl) k) ?_
          refine J.bind (fun o2146 g2146 => ?_)
          refine J.bd' (fun v2146 S2146 h2146 => ?_)
          refine J.cV (q := (RX1, TX1, 9)) (ci := 0) (As := []) (rest := []) (s2 := [.int v2146]) X ⟨rfl, rfl⟩ (ct_X1_saveState l G n B23 o2146) h2146 (fun _ _ => cwV 0 X.1.2.2.2.2 (lw_V q2378 q2379 q2380 q138 q2381) rfl rfl rfl (by decide +kernel) ⟨(Nat.le_of_ble_eq_true rfl), (Nat.le_of_ble_eq_true rfl)⟩) g2146 rfl rfl hl.1 rfl rfl (Nat.le_of_ble_eq_true rfl) dL_law_2146 ?_
          refine J.pu (fun _ _ _ _ k => W.rload_n X.1.1 X.1.2.1 dL_law_2149 rfl (lv_at hl 2 rfl) k) ?_
          refine J.bind (fun o2150 g2150 => ?_)
          refine J.bd' (fun v2150 S2150 h2150 => ?_)
          refine J.cV (q := (RX6, TX6, 26)) (ci := 5) (As := []) (rest := [.int v2146]) (s2 := [.int v2150, .int v2146]) X ⟨rfl, rfl⟩ (jmcw (fun A hm σ9 hs M => ct_X6_saveState l hm σ9 n M)) h2150 (fun _ _ => cwV 0 X.1.2.2.2.2 (lw_V q3312 q3313 q3314 q174 q3315) rfl rfl rfl (by decide +kernel) ⟨(Nat.le_of_ble_eq_true rfl), (Nat.le_of_ble_eq_true rfl)⟩) g2150 rfl rfl hl.1 rfl rfl (Nat.le_of_ble_eq_true rfl) dL_law_2150 ?_
          refine J.br (fun _ _ _ _ ka kb => lv_icmp_eq (tgt := 2202) X.1.1 X.1.2.1 dL_law_2153 (by decide) ka kb) (fun c2153 => ?_) (fun c2153 => ?_)
          · exact j2202 x4_23 S2150 ls (lv_sub hl [0, 1, 2, 3, 4] rfl)
          · refine J.pu (fun _ _ _ _ k => lv_iconst (v := 0) X.1.1 X.1.2.1 dL_law_2156 (by decide) k) ?_
            exact J.zret (vr := fun t : Int32 × jH => jrI t.1) (fin := Prod.snd) (t := t) X hr (by decide) (by rfl) (by rfl) dL_law_2157
        refine J.ite (fun c40_41 => ?_) (fun c40_41 => ?_)
        · refine J.pu (fun _ _ _ _ k => lv_tableIn (tgt := 2158) (off := 2118) X.1.1 X.1.2.1 dL_law_40 (by rw [c40_41]; decide) (by rw [c40_41]; decide) (by rw [c40_41]; decide) (by decide) k) ?_
          refine J.pu (fun _ _ _ _ k => W.rload_n X.1.1 X.1.2.1 dL_law_2158 rfl (lv_at hl 1 rfl) k) ?_
          refine J.pu (fun _ _ _ _ k => W.rload_n X.1.1 X.1.2.1 dL_law_2159 rfl (lv_at hl 3 rfl) k) ?_
          refine J.bd' (fun v2160 S2160 h2160 => ?_)
          refine J.cSW (hh := [(0, 8, 11, 95)]) (As := [va_rf x1_23, va_rf x3_23]) (rest := []) (s2 := [.int v2160]) X ⟨rfl, rfl⟩ (ct_X0_restoreState l hfl G n B23 x1_23 x3_23) h2160 (fun _ _ => vx_cwSW 2 X.1.2.2.2.2 (lw_SW q2705 q2706 q137 q2707) rfl rfl rfl (by decide +kernel) ⟨(Nat.le_of_ble_eq_true rfl), (Nat.le_of_ble_eq_true rfl)⟩) rfl hl.1 rfl rfl (Nat.le_of_ble_eq_true rfl) dL_law_2160 ?_
          refine J.istore (lv' := [(5, .int v2160), (0, va_rf a0), (1, va_rf x1_23), (2, va_rf x2_23), (3, va_rf x3_23), (4, .int x4_23)]) X.1.1 X.1.2.1 dL_law_2163 hl (by decide) (by first | rfl | simp [va_rf_cat, jcI, jcA, jcJ, jcD, jcF]) (fun ls hl => ?_)
          refine J.pu (fun _ _ _ _ k => W.rload_n X.1.1 X.1.2.1 dL_law_2165 rfl (lv_at hl 3 rfl) k) ?_
          refine J.bind (fun o2166 g2166 => ?_)
          refine J.bd' (fun v2166 S2166 h2166 => ?_)
          refine J.cV (q := (RX6, TX6, 26)) (ci := 5) (As := []) (rest := []) (s2 := [.int v2166]) X ⟨rfl, rfl⟩ (jmcw (fun A hm σ9 hs M => ct_X6_restoreState l hm σ9 n M)) h2166 (fun _ _ => cwV 0 X.1.2.2.2.2 (lw_V q3316 q3317 q3318 q174 q3319) rfl rfl rfl (by decide +kernel) ⟨(Nat.le_of_ble_eq_true rfl), (Nat.le_of_ble_eq_true rfl)⟩) g2166 rfl rfl hl.1 rfl rfl (Nat.le_of_ble_eq_true rfl) dL_law_2166 ?_
          refine J.istore (lv' := [(6, .int v2166), (5, .int v2160), (0, va_rf a0), (1, va_rf x1_23), (2, va_rf x2_23), (3, va_rf x3_23), (4, .int x4_23)]) X.1.1 X.1.2.1 dL_law_2169 hl (by decide) (by first | rfl | simp [va_rf_cat, jcI, jcA, jcJ, jcD, jcF]) (fun ls hl => ?_)
          refine J.pu (fun _ _ _ _ k => W.rload_n X.1.1 X.1.2.1 dL_law_2171 rfl (lv_at hl 4 rfl) k) ?_
          refine J.bind (fun o2172 g2172 => ?_)
          refine J.bind (fun v2172 h2172 => ?_)
          refine J.cV (q := (RX6, TX6, 26)) (ci := 5) (As := []) (rest := []) (s2 := [.int v2172]) X ⟨rfl, rfl⟩ (jmcr (fun A hm σ9 hs M => ct_X6_thrown l hm σ9 n M)) (jrd_of h2172) (fun _ _ => cwV 0 X.1.2.2.2.2 (lw_V q2809 q2810 q2811 q174 q2812) rfl rfl rfl (by decide +kernel) ⟨(Nat.le_of_ble_eq_true rfl), (Nat.le_of_ble_eq_true rfl)⟩) g2172 rfl rfl hl.1 rfl rfl (Nat.le_of_ble_eq_true rfl) dL_law_2172 ?_
          refine J.pu (fun _ _ _ _ k => lv_iload X.1.1 X.1.2.1 dL_law_2175 (lv_at hl 1 rfl) k) ?_
          refine J.br (fun _ _ _ _ ka kb => lv_icmp_eq (tgt := 2182) X.1.1 X.1.2.1 dL_law_2177 (by decide) ka kb) (fun c2177 => ?_) (fun c2177 => ?_)
          · refine J.pu (fun _ _ _ _ k => lv_iload X.1.1 X.1.2.1 dL_law_2182 (lv_at hl 1 rfl) k) ?_
            refine J.br (fun _ _ _ _ ka kb => lv_if_ne (tgt := 2199) X.1.1 X.1.2.1 dL_law_2184 (by decide) kb ka) (fun c2184 => ?_) (fun c2184 => ?_)
            · refine J.pu (fun _ _ _ _ k => W.rload_n X.1.1 X.1.2.1 dL_law_2187 rfl (lv_at hl 5 rfl) k) ?_
              refine J.pu (fun _ _ _ _ k => lv_iconst (v := 0) X.1.1 X.1.2.1 dL_law_2188 (by decide) k) ?_
              refine J.aJ' X dL_law_2189 (fun v2189 h2189 => ?_)
              refine J.pu (fun _ _ _ _ k => lv_iload X.1.1 X.1.2.1 dL_law_2190 (lv_at hl 0 rfl) k) ?_
              refine J.pu (fun _ _ _ _ k => lv_i2l (v := v2166.toInt64) X.1.1 X.1.2.1 dL_law_2192 rfl k) ?_
              refine J.pu (fun _ _ _ _ k => W.lcmp X.1.1 X.1.2.1 dL_law_2193 k) ?_
              refine J.br (fun _ _ _ _ ka kb => lv_if_eq (tgt := 2199) X.1.1 X.1.2.1 dL_law_2194 (by decide) ka kb) (fun c2194 => ?_) (fun c2194 => ?_)
              · refine J.pu (fun _ _ _ _ k => lv_goto (tgt := 2202) X.1.1 X.1.2.1 dL_law_2199 (by decide) k) ?_
                exact j2202 x4_23 S2166 ls (lv_sub hl [2, 3, 4, 5, 6] rfl)
              · refine J.pu (fun _ _ _ _ k => lv_iconst (v := 0) X.1.1 X.1.2.1 dL_law_2197 (by decide) k) ?_
                exact J.zret (vr := fun t : Int32 × jH => jrI t.1) (fin := Prod.snd) (t := t) X hr (by decide) (by rfl) (by rfl) dL_law_2198
            · refine J.pu (fun _ _ _ _ k => lv_goto (tgt := 2202) X.1.1 X.1.2.1 dL_law_2199 (by decide) k) ?_
              exact j2202 x4_23 S2166 ls (lv_sub hl [2, 3, 4, 5, 6] rfl)
          · refine J.pu (fun _ _ _ _ k => lv_iconst (v := 0) X.1.1 X.1.2.1 dL_law_2180 (by decide) k) ?_
            exact J.zret (vr := fun t : Int32 × jH => jrI t.1) (fin := Prod.snd) (t := t) X hr (by decide) (by rfl) (by rfl) dL_law_2181
        by_cases b40 : (v36 &&& 63).toInt < 0 ∨ 41 < (v36 &&& 63).toInt
        · refine J.pu (fun _ _ _ _ k => lv_tableOut (tgt := 2202) X.1.1 X.1.2.1 dL_law_40 b40 (by decide) k) ?_
          exact j2202 x4_23 B23 ls (lv_sub hl [0, 1, 2, 3, 4] rfl)
        · exfalso; have := lv_neT c40_0 (a := 0) rfl; have := lv_neT c40_1 (a := 1) rfl; have := lv_neT c40_2 (a := 2) rfl; have := lv_neT c40_3 (a := 3) rfl; have := lv_neT c40_4 (a := 4) rfl; have := lv_neT c40_5 (a := 5) rfl; have := lv_neT c40_6 (a := 6) rfl; have := lv_neT c40_7 (a := 7) rfl; have := lv_neT c40_8 (a := 8) rfl; have := lv_neT c40_9 (a := 9) rfl; have := lv_neT c40_10 (a := 10) rfl; have := lv_neT c40_11 (a := 11) rfl; have := lv_neT c40_12 (a := 12) rfl; have := lv_neT c40_13 (a := 13) rfl; have := lv_neT c40_14 (a := 14) rfl; have := lv_neT c40_15 (a := 15) rfl; have := lv_neT c40_16 (a := 16) rfl; have := lv_neT c40_17 (a := 17) rfl; have := lv_neT c40_18 (a := 18) rfl; have := lv_neT c40_19 (a := 19) rfl; have := lv_neT c40_20 (a := 20) rfl; have := lv_neT c40_21 (a := 21) rfl; have := lv_neT c40_22 (a := 22) rfl; have := lv_neT c40_23 (a := 23) rfl; have := lv_neT c40_24 (a := 24) rfl; have := lv_neT c40_25 (a := 25) rfl; have := lv_neT c40_26 (a := 26) rfl; have := lv_neT c40_27 (a := 27) rfl; have := lv_neT c40_28 (a := 28) rfl; have := lv_neT c40_29 (a := 29) rfl; have := lv_neT c40_30 (a := 30) rfl; have := lv_neT c40_31 (a := 31) rfl; have := lv_neT c40_32 (a := 32) rfl; have := lv_neT c40_33 (a := 33) rfl; have := lv_neT c40_34 (a := 34) rfl; have := lv_neT c40_35 (a := 35) rfl; have := lv_neT c40_36 (a := 36) rfl; have := lv_neT c40_37 (a := 37) rfl; have := lv_neT c40_38 (a := 38) rfl; have := lv_neT c40_39 (a := 39) rfl; have := lv_neT c40_40 (a := 40) rfl; have := lv_neT c40_41 (a := 41) rfl; omega
  unfold L_law_b
  refine J.nO' (fs := [.null, .int 0, .int 0, .int 0, .null, .null, .null, .null, .null]) X ⟨rfl, rfl⟩ in_X1 (show jCl[0]? = some (RX1, TX1, 9) from rfl) tyX1 tyX1_ok q194 q195 q138 rfl dL_law_0 (fun v0 S0 h0 => ?_)
  refine J.pu (fun _ _ _ _ k => lv_dup X.1.1 X.1.2.1 dL_law_3 rfl k) ?_
  refine J.bd' (fun v4 S4 h4 => ?_)
  refine J.cI (a := v0) (As := []) (rest := [.ref v0]) (s2 := [.ref v0]) X ⟨rfl, rfl⟩ (ct_X1_init l G n S0 v0) h4 (fun _ _ => jcwI 0 X.1.2.2.2.2 q196 q197 q138 q198 rfl rfl rfl (by decide +kernel) ⟨(Nat.le_of_ble_eq_true rfl), (Nat.le_of_ble_eq_true rfl)⟩) rfl hl.1 rfl rfl (Nat.le_of_ble_eq_true rfl) dL_law_4 ?_
  refine J.astore_n (r := (some v0)) (i := 1) (lv' := [(1, va_rf (some v0)), (0, va_rf a0)]) X.1.1 X.1.2.1 dL_law_7 rfl hl (by decide) (by first | rfl | simp [va_rf_cat, jcI, jcA, jcJ, jcD, jcF]) (fun ls hl => ?_)
  refine J.nO' (fs := [.null, .null, .null, .null, .null, .int 0, .int 0, .int 0, .null, .int 0, .int 0, .int 0, .int 0, .int 0, .int 0, .int 0, .int 0, .int 0, .int 0, .null, .null, .null, .null, .int 0, .null, .int 0]) X ⟨rfl, rfl⟩ in_X6 (show jCl[5]? = some (RX6, TX6, 26) from rfl) tyX6 tyX6_ok q2712 q2713 q174 rfl dL_law_8 (fun v8 S8 h8 => ?_)
  refine J.pu (fun _ _ _ _ k => lv_dup X.1.1 X.1.2.1 dL_law_11 rfl k) ?_
  refine J.bd' (fun v12 S12 h12 => ?_)
  refine J.cI (a := v8) (As := []) (rest := [.ref v8]) (s2 := [.ref v8]) X ⟨rfl, rfl⟩ (ct_X6h_init l G n S8 v8) h12 (fun _ _ => jcwI 0 X.1.2.2.2.2 q2714 q2715 q174 q2716 rfl rfl rfl (by decide +kernel) ⟨(Nat.le_of_ble_eq_true rfl), (Nat.le_of_ble_eq_true rfl)⟩) rfl hl.1 rfl rfl (Nat.le_of_ble_eq_true rfl) dL_law_12 ?_
  refine J.astore_n (r := (some v8)) (i := 2) (lv' := [(2, va_rf (some v8)), (1, va_rf (some v0)), (0, va_rf a0)]) X.1.1 X.1.2.1 dL_law_15 rfl hl (by decide) (by first | rfl | simp [va_rf_cat, jcI, jcA, jcJ, jcD, jcF]) (fun ls hl => ?_)
  refine J.pu (fun _ _ _ _ k => lv_iconst (v := 1) X.1.1 X.1.2.1 dL_law_16 (by decide) k) ?_
  refine J.nJ' X ⟨rfl, rfl⟩ dL_law_17 (fun v17 S17 h17 => ?_)
  refine J.astore_n (r := (some v17)) (i := 3) (lv' := [(3, va_rf (some v17)), (2, va_rf (some v8)), (1, va_rf (some v0)), (0, va_rf a0)]) X.1.1 X.1.2.1 dL_law_19 rfl hl (by decide) (by first | rfl | simp [va_rf_cat, jcI, jcA, jcJ, jcD, jcF]) (fun ls hl => ?_)
  refine J.pu (fun _ _ _ _ k => lv_iconst (v := 0) X.1.1 X.1.2.1 dL_law_20 (by decide) k) ?_
  refine J.istore (lv' := [(4, .int 0), (3, va_rf (some v17)), (2, va_rf (some v8)), (1, va_rf (some v0)), (0, va_rf a0)]) X.1.1 X.1.2.1 dL_law_21 hl (by decide) (by first | rfl | simp [va_rf_cat, jcI, jcA, jcJ, jcD, jcF]) (fun ls hl => ?_)
  exact L23 (some v0) (some v8) (some v17) n 0 S17 ls (lv_sub hl [4, 3, 2, 1, 0] rfl)
