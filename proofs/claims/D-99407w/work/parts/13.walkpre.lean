theorem ydX4_init : gYd yX4_init 0 := ⟨by decide +kernel, by decide +kernel⟩
theorem ydX5_init : gYd yX5_init 0 := ⟨by decide +kernel, by decide +kernel⟩
theorem ydX3_init : gYd yX3_init 0 := ⟨by decide +kernel, by decide +kernel⟩
theorem ydJ0_init_2 : gYd yJ0_init_2 4 := ⟨by decide +kernel, by decide +kernel⟩
theorem ydJ1_init : gYd yJ1_init 4 := ⟨by decide +kernel, by decide +kernel⟩
theorem ydJ2_init : gYd yJ2_init 4 := ⟨by decide +kernel, by decide +kernel⟩
theorem ydX6_init : gYd yX6_init 0 := ⟨by decide +kernel, by decide +kernel⟩
theorem ydX2_init : gYd yX2_init 0 := ⟨by decide +kernel, by decide +kernel⟩
theorem ydX7_init : gYd yX7_init 1 := ⟨by decide +kernel, by decide +kernel⟩
theorem ydX1_init : gYd yX1_init 0 := ⟨by decide +kernel, by decide +kernel⟩
theorem ydX8_init : gYd yX8_init 0 := ⟨by decide +kernel, by decide +kernel⟩
theorem ydJ13_min : gYd yJ13_min 2 := ⟨by decide +kernel, by decide +kernel⟩
theorem ydX1_worn : gYd yX1_worn 0 := ⟨by decide +kernel, by decide +kernel⟩
theorem ydX3_those : gYd yX3_those 1 := ⟨by decide +kernel, by decide +kernel⟩
theorem ydX1_full : gYd yX1_full 0 := ⟨by decide +kernel, by decide +kernel⟩
theorem ydX1_count : gYd yX1_count 1 := ⟨by decide +kernel, by decide +kernel⟩
theorem ydX8_props : gYd yX8_props 0 := ⟨by decide +kernel, by decide +kernel⟩
theorem ydX8_propAt : gYd yX8_propAt 2 := ⟨by decide +kernel, by decide +kernel⟩
theorem ydX8_ofProp : gYd yX8_ofProp 2 := ⟨by decide +kernel, by decide +kernel⟩
theorem ydX8_wornOfAll : gYd yX8_wornOfAll 0 := ⟨by decide +kernel, by decide +kernel⟩
theorem ydX8_oneCount : gYd yX8_oneCount 0 := ⟨by decide +kernel, by decide +kernel⟩
theorem ydX8_oneAt : gYd yX8_oneAt 2 := ⟨by decide +kernel, by decide +kernel⟩
theorem ydX8_of : gYd yX8_of 2 := ⟨by decide +kernel, by decide +kernel⟩
theorem ydX8_ofState : gYd yX8_ofState 1 := ⟨by decide +kernel, by decide +kernel⟩
theorem ydX8_propIn : gYd yX8_propIn 1 := ⟨by decide +kernel, by decide +kernel⟩
theorem ydX8_slotsWithProps : gYd yX8_slotsWithProps 0 := ⟨by decide +kernel, by decide +kernel⟩
theorem ydX8_in : gYd yX8_in 3 := ⟨by decide +kernel, by decide +kernel⟩
theorem ydX8_count : gYd yX8_count 1 := ⟨by decide +kernel, by decide +kernel⟩
theorem ydX4_be : gYd yX4_be 1 := ⟨by decide +kernel, by decide +kernel⟩
theorem ydX5_be : gYd yX5_be 1 := ⟨by decide +kernel, by decide +kernel⟩
theorem ydX3_be : gYd yX3_be 1 := ⟨by decide +kernel, by decide +kernel⟩
theorem ydX1_back : gYd yX1_back 0 := ⟨by decide +kernel, by decide +kernel⟩
theorem ydX8_back : gYd yX8_back 0 := ⟨by decide +kernel, by decide +kernel⟩
theorem ydX1_image : gYd yX1_image 0 := ⟨by decide +kernel, by decide +kernel⟩
theorem ydX8_image : gYd yX8_image 0 := ⟨by decide +kernel, by decide +kernel⟩
theorem ydX1_undo : gYd yX1_undo 0 := ⟨by decide +kernel, by decide +kernel⟩
theorem ydX8_undo : gYd yX8_undo 0 := ⟨by decide +kernel, by decide +kernel⟩
theorem ydX1_seed : gYd yX1_seed 1 := ⟨by decide +kernel, by decide +kernel⟩
theorem ydX8_seed : gYd yX8_seed 1 := ⟨by decide +kernel, by decide +kernel⟩
theorem ydX1_isIn : gYd yX1_isIn 3 := ⟨by decide +kernel, by decide +kernel⟩
theorem ydX1_thereIs : gYd yX1_thereIs 1 := ⟨by decide +kernel, by decide +kernel⟩
theorem ydX3_isKept : gYd yX3_isKept 1 := ⟨by decide +kernel, by decide +kernel⟩
theorem ydX3_row : gYd yX3_row 2 := ⟨by decide +kernel, by decide +kernel⟩
theorem ydX1_log : gYd yX1_log 2 := ⟨by decide +kernel, by decide +kernel⟩
theorem ydX0_log : gYd yX0_log 4 := ⟨by decide +kernel, by decide +kernel⟩
theorem ydX8_throwsIf : gYd yX8_throwsIf 2 := ⟨by decide +kernel, by decide +kernel⟩
theorem ydX8_ofLog : gYd yX8_ofLog 2 := ⟨by decide +kernel, by decide +kernel⟩
theorem ydX8_log : gYd yX8_log 2 := ⟨by decide +kernel, by decide +kernel⟩
theorem ydX8_thrown : gYd yX8_thrown 0 := ⟨by decide +kernel, by decide +kernel⟩
theorem ydX1_mustBe : gYd yX1_mustBe 1 := ⟨by decide +kernel, by decide +kernel⟩
theorem ydX1_oneAt : gYd yX1_oneAt 1 := ⟨by decide +kernel, by decide +kernel⟩
theorem ydX1_led : gYd yX1_led 2 := ⟨by decide +kernel, by decide +kernel⟩
theorem ydX0_led : gYd yX0_led 4 := ⟨by decide +kernel, by decide +kernel⟩
theorem ydX8_noOne : gYd yX8_noOne 1 := ⟨by decide +kernel, by decide +kernel⟩
theorem ydX8_led : gYd yX8_led 2 := ⟨by decide +kernel, by decide +kernel⟩
theorem ydX1_must : gYd yX1_must 1 := ⟨by decide +kernel, by decide +kernel⟩
theorem ydX3_tells : gYd yX3_tells 3 := ⟨by decide +kernel, by decide +kernel⟩
theorem ydX10_holds : gYd yX10_holds 1 := ⟨by decide +kernel, by decide +kernel⟩
theorem ydX11_of : gYd yX11_of 1 := ⟨by decide +kernel, by decide +kernel⟩
theorem ydX12_holds : gYd yX12_holds 1 := ⟨by decide +kernel, by decide +kernel⟩
theorem ydX9_holds : gYd yX9_holds 1 := ⟨by decide +kernel, by decide +kernel⟩
theorem ydX13_holds : gYd yX13_holds 1 := ⟨by decide +kernel, by decide +kernel⟩
theorem ydX14_adds : gYd yX14_adds 1 := ⟨by decide +kernel, by decide +kernel⟩
theorem ydX15_wears : gYd yX15_wears 1 := ⟨by decide +kernel, by decide +kernel⟩
theorem ydX14_wears : gYd yX14_wears 1 := ⟨by decide +kernel, by decide +kernel⟩
theorem ydX3_wears : gYd yX3_wears 3 := ⟨by decide +kernel, by decide +kernel⟩
theorem ydJ13_max : gYd yJ13_max 2 := ⟨by decide +kernel, by decide +kernel⟩
theorem ydX16_frights : gYd yX16_frights 1 := ⟨by decide +kernel, by decide +kernel⟩
theorem ydX14_frights : gYd yX14_frights 1 := ⟨by decide +kernel, by decide +kernel⟩
theorem ydX3_frights : gYd yX3_frights 3 := ⟨by decide +kernel, by decide +kernel⟩
theorem ydX3_behind : gYd yX3_behind 4 := ⟨by decide +kernel, by decide +kernel⟩
theorem ydX3_draw : gYd yX3_draw 1 := ⟨by decide +kernel, by decide +kernel⟩
theorem ydX1_rides : gYd yX1_rides 2 := ⟨by decide +kernel, by decide +kernel⟩
theorem ydX1_goOn : gYd yX1_goOn 1 := ⟨by decide +kernel, by decide +kernel⟩
theorem ydX1_span : gYd yX1_span 2 := ⟨by decide +kernel, by decide +kernel⟩
theorem ydX0_span : gYd yX0_span 4 := ⟨by decide +kernel, by decide +kernel⟩
theorem ydX8_waits : gYd yX8_waits 1 := ⟨by decide +kernel, by decide +kernel⟩
theorem ydX8_looksAt : gYd yX8_looksAt 1 := ⟨by decide +kernel, by decide +kernel⟩
theorem ydX8_begins : gYd yX8_begins 0 := ⟨by decide +kernel, by decide +kernel⟩
theorem ydX8_has : gYd yX8_has 2 := ⟨by decide +kernel, by decide +kernel⟩
theorem ydX8_propOnTheWay : gYd yX8_propOnTheWay 1 := ⟨by decide +kernel, by decide +kernel⟩
theorem ydX8_calmer : gYd yX8_calmer 1 := ⟨by decide +kernel, by decide +kernel⟩
theorem ydX8_drawn : gYd yX8_drawn 1 := ⟨by decide +kernel, by decide +kernel⟩
theorem ydX8_factOf : gYd yX8_factOf 2 := ⟨by decide +kernel, by decide +kernel⟩
theorem ydX8_holdsLine : gYd yX8_holdsLine 1 := ⟨by decide +kernel, by decide +kernel⟩
theorem ydX8_sumOf : gYd yX8_sumOf 1 := ⟨by decide +kernel, by decide +kernel⟩
theorem ydX8_wearsBy : gYd yX8_wearsBy 2 := ⟨by decide +kernel, by decide +kernel⟩
theorem ydX8_frightsBy : gYd yX8_frightsBy 2 := ⟨by decide +kernel, by decide +kernel⟩
theorem ydX8_comesTo : gYd yX8_comesTo 3 := ⟨by decide +kernel, by decide +kernel⟩
theorem ydX8_rideSlot : gYd yX8_rideSlot 3 := ⟨by decide +kernel, by decide +kernel⟩
theorem ydX8_rides : gYd yX8_rides 2 := ⟨by decide +kernel, by decide +kernel⟩
theorem ydX8_screamsBy : gYd yX8_screamsBy 1 := ⟨by decide +kernel, by decide +kernel⟩
theorem ydX8_span : gYd yX8_span 2 := ⟨by decide +kernel, by decide +kernel⟩
theorem ydX1_trial : gYd yX1_trial 1 := ⟨by decide +kernel, by decide +kernel⟩
theorem ydX0_trial : gYd yX0_trial 3 := ⟨by decide +kernel, by decide +kernel⟩
theorem ydX8_trial : gYd yX8_trial 1 := ⟨by decide +kernel, by decide +kernel⟩
theorem ydX3_nailed : gYd yX3_nailed 0 := ⟨by decide +kernel, by decide +kernel⟩
theorem ydX7_goes : gYd yX7_goes 5 := ⟨by decide +kernel, by decide +kernel⟩
theorem ydX7_counts : gYd yX7_counts 1 := ⟨by decide +kernel, by decide +kernel⟩
theorem ydX1_loud : gYd yX1_loud 1 := ⟨by decide +kernel, by decide +kernel⟩
theorem ydX1_loudest : gYd yX1_loudest 0 := ⟨by decide +kernel, by decide +kernel⟩
theorem ydX8_isNailed : gYd yX8_isNailed 1 := ⟨by decide +kernel, by decide +kernel⟩
theorem ydX8_laysSlot : gYd yX8_laysSlot 1 := ⟨by decide +kernel, by decide +kernel⟩
theorem ydX8_laysRows : gYd yX8_laysRows 1 := ⟨by decide +kernel, by decide +kernel⟩
theorem ydX8_loudest : gYd yX8_loudest 0 := ⟨by decide +kernel, by decide +kernel⟩
theorem ydX1_propAt : gYd yX1_propAt 1 := ⟨by decide +kernel, by decide +kernel⟩
theorem ydX1_share : gYd yX1_share 2 := ⟨by decide +kernel, by decide +kernel⟩
theorem ydX0_share : gYd yX0_share 4 := ⟨by decide +kernel, by decide +kernel⟩
theorem ydX8_noProp : gYd yX8_noProp 1 := ⟨by decide +kernel, by decide +kernel⟩
theorem ydX8_ridesStraight : gYd yX8_ridesStraight 1 := ⟨by decide +kernel, by decide +kernel⟩
theorem ydX8_share : gYd yX8_share 2 := ⟨by decide +kernel, by decide +kernel⟩
theorem ydX1_screamsNow : gYd yX1_screamsNow 0 := ⟨by decide +kernel, by decide +kernel⟩
theorem ydX1_wearsOut : gYd yX1_wearsOut 0 := ⟨by decide +kernel, by decide +kernel⟩
theorem ydX1_all : gYd yX1_all 1 := ⟨by decide +kernel, by decide +kernel⟩
theorem ydX8_keepsAll : gYd yX8_keepsAll 0 := ⟨by decide +kernel, by decide +kernel⟩
theorem ydX8_laysOn : gYd yX8_laysOn 1 := ⟨by decide +kernel, by decide +kernel⟩
theorem ydX8_bringsBack : gYd yX8_bringsBack 0 := ⟨by decide +kernel, by decide +kernel⟩
theorem ydX8_screamers : gYd yX8_screamers 1 := ⟨by decide +kernel, by decide +kernel⟩
theorem ydX8_all : gYd yX8_all 1 := ⟨by decide +kernel, by decide +kernel⟩
theorem ydX1_lasts : gYd yX1_lasts 2 := ⟨by decide +kernel, by decide +kernel⟩
theorem ydX0_lasts : gYd yX0_lasts 4 := ⟨by decide +kernel, by decide +kernel⟩
theorem ydX8_lasts : gYd yX8_lasts 2 := ⟨by decide +kernel, by decide +kernel⟩
theorem ydX1_isChoice : gYd yX1_isChoice 1 := ⟨by decide +kernel, by decide +kernel⟩
theorem ydX1_screamsBy : gYd yX1_screamsBy 3 := ⟨by decide +kernel, by decide +kernel⟩
theorem ydX1_usher : gYd yX1_usher 1 := ⟨by decide +kernel, by decide +kernel⟩
theorem ydX0_usher : gYd yX0_usher 3 := ⟨by decide +kernel, by decide +kernel⟩
theorem ydX8_canBe : gYd yX8_canBe 1 := ⟨by decide +kernel, by decide +kernel⟩
theorem ydX8_isHeard : gYd yX8_isHeard 3 := ⟨by decide +kernel, by decide +kernel⟩
theorem ydX8_rests : gYd yX8_rests 3 := ⟨by decide +kernel, by decide +kernel⟩
theorem ydX8_usher : gYd yX8_usher 1 := ⟨by decide +kernel, by decide +kernel⟩
theorem ydX1_alike : gYd yX1_alike 0 := ⟨by decide +kernel, by decide +kernel⟩
theorem ydX8_alike : gYd yX8_alike 0 := ⟨by decide +kernel, by decide +kernel⟩
theorem ydX7_odds : gYd yX7_odds 0 := ⟨by decide +kernel, by decide +kernel⟩
theorem ydX1_oddsOf : gYd yX1_oddsOf 1 := ⟨by decide +kernel, by decide +kernel⟩
theorem ydX1_bravest : gYd yX1_bravest 0 := ⟨by decide +kernel, by decide +kernel⟩
theorem ydX8_waysOf : gYd yX8_waysOf 1 := ⟨by decide +kernel, by decide +kernel⟩
theorem ydX8_oddsOf : gYd yX8_oddsOf 1 := ⟨by decide +kernel, by decide +kernel⟩
theorem ydX8_bravest : gYd yX8_bravest 0 := ⟨by decide +kernel, by decide +kernel⟩
theorem ydX1_nailedOnes : gYd yX1_nailedOnes 0 := ⟨by decide +kernel, by decide +kernel⟩
theorem ydJ7_bitCount : gYd yJ7_bitCount 1 := ⟨by decide +kernel, by decide +kernel⟩
theorem ydX3_takes : gYd yX3_takes 1 := ⟨by decide +kernel, by decide +kernel⟩
theorem ydX1_guiltyOnes : gYd yX1_guiltyOnes 0 := ⟨by decide +kernel, by decide +kernel⟩
theorem ydX1_leave : gYd yX1_leave 0 := ⟨by decide +kernel, by decide +kernel⟩
theorem ydX8_nailedOnes : gYd yX8_nailedOnes 0 := ⟨by decide +kernel, by decide +kernel⟩
theorem ydX8_isInnocent : gYd yX8_isInnocent 1 := ⟨by decide +kernel, by decide +kernel⟩
theorem ydX8_isQuiet : gYd yX8_isQuiet 0 := ⟨by decide +kernel, by decide +kernel⟩
theorem ydX8_leave : gYd yX8_leave 0 := ⟨by decide +kernel, by decide +kernel⟩
theorem ydX1_shown : gYd yX1_shown 1 := ⟨by decide +kernel, by decide +kernel⟩
theorem ydX1_cover : gYd yX1_cover 0 := ⟨by decide +kernel, by decide +kernel⟩
theorem ydX8_shownBy : gYd yX8_shownBy 1 := ⟨by decide +kernel, by decide +kernel⟩
theorem ydX8_cover : gYd yX8_cover 0 := ⟨by decide +kernel, by decide +kernel⟩
theorem ydX1_corners : gYd yX1_corners 1 := ⟨by decide +kernel, by decide +kernel⟩
theorem ydX0_corners : gYd yX0_corners 3 := ⟨by decide +kernel, by decide +kernel⟩
theorem ydX8_corners : gYd yX8_corners 1 := ⟨by decide +kernel, by decide +kernel⟩
theorem ydX1_car : gYd yX1_car 2 := ⟨by decide +kernel, by decide +kernel⟩
theorem ydX0_car : gYd yX0_car 4 := ⟨by decide +kernel, by decide +kernel⟩
theorem ydX8_carStep : gYd yX8_carStep 3 := ⟨by decide +kernel, by decide +kernel⟩
theorem ydX8_screams : gYd yX8_screams 2 := ⟨by decide +kernel, by decide +kernel⟩
theorem ydX8_car : gYd yX8_car 2 := ⟨by decide +kernel, by decide +kernel⟩
theorem ydX1_took : gYd yX1_took 0 := ⟨by decide +kernel, by decide +kernel⟩
theorem ydX1_hears : gYd yX1_hears 1 := ⟨by decide +kernel, by decide +kernel⟩
theorem ydX1_part : gYd yX1_part 1 := ⟨by decide +kernel, by decide +kernel⟩
theorem ydX1_ask : gYd yX1_ask 1 := ⟨by decide +kernel, by decide +kernel⟩
theorem ydX0_ask : gYd yX0_ask 3 := ⟨by decide +kernel, by decide +kernel⟩
theorem ydX8_uses : gYd yX8_uses 0 := ⟨by decide +kernel, by decide +kernel⟩
theorem ydX8_noSlot : gYd yX8_noSlot 1 := ⟨by decide +kernel, by decide +kernel⟩
theorem ydX8_isTold : gYd yX8_isTold 1 := ⟨by decide +kernel, by decide +kernel⟩
theorem ydX8_fits : gYd yX8_fits 2 := ⟨by decide +kernel, by decide +kernel⟩
theorem ydX8_greatestPart : gYd yX8_greatestPart 2 := ⟨by decide +kernel, by decide +kernel⟩
theorem ydX8_ask : gYd yX8_ask 1 := ⟨by decide +kernel, by decide +kernel⟩
theorem ydX1_found : gYd yX1_found 2 := ⟨by decide +kernel, by decide +kernel⟩
theorem ydX0_found : gYd yX0_found 4 := ⟨by decide +kernel, by decide +kernel⟩
theorem ydX8_found : gYd yX8_found 2 := ⟨by decide +kernel, by decide +kernel⟩
theorem ydX1_gap : gYd yX1_gap 0 := ⟨by decide +kernel, by decide +kernel⟩
theorem ydX1_next : gYd yX1_next 0 := ⟨by decide +kernel, by decide +kernel⟩
theorem ydX8_gapNow : gYd yX8_gapNow 0 := ⟨by decide +kernel, by decide +kernel⟩
theorem ydX8_next : gYd yX8_next 0 := ⟨by decide +kernel, by decide +kernel⟩
theorem ydX1_changes : gYd yX1_changes 2 := ⟨by decide +kernel, by decide +kernel⟩
theorem ydX1_swap : gYd yX1_swap 0 := ⟨by decide +kernel, by decide +kernel⟩
theorem ydX8_changes : gYd yX8_changes 2 := ⟨by decide +kernel, by decide +kernel⟩
theorem ydX8_swap : gYd yX8_swap 0 := ⟨by decide +kernel, by decide +kernel⟩
theorem ydX1_errors : gYd yX1_errors 1 := ⟨by decide +kernel, by decide +kernel⟩
theorem ydX8_errors : gYd yX8_errors 1 := ⟨by decide +kernel, by decide +kernel⟩
theorem ydX8_gap : gYd yX8_gap 0 := ⟨by decide +kernel, by decide +kernel⟩
theorem ydX1_odds : gYd yX1_odds 1 := ⟨by decide +kernel, by decide +kernel⟩
theorem ydX0_odds : gYd yX0_odds 3 := ⟨by decide +kernel, by decide +kernel⟩
theorem ydX8_odds : gYd yX8_odds 1 := ⟨by decide +kernel, by decide +kernel⟩
theorem ydX1_isSlot : gYd yX1_isSlot 1 := ⟨by decide +kernel, by decide +kernel⟩
theorem ydX1_at : gYd yX1_at 2 := ⟨by decide +kernel, by decide +kernel⟩
theorem ydX0_at : gYd yX0_at 4 := ⟨by decide +kernel, by decide +kernel⟩
theorem ydX8_at : gYd yX8_at 2 := ⟨by decide +kernel, by decide +kernel⟩
theorem ydX1_ways : gYd yX1_ways 1 := ⟨by decide +kernel, by decide +kernel⟩
theorem ydX0_ways : gYd yX0_ways 3 := ⟨by decide +kernel, by decide +kernel⟩
theorem ydX8_ways : gYd yX8_ways 1 := ⟨by decide +kernel, by decide +kernel⟩
theorem ydX1_tense : gYd yX1_tense 2 := ⟨by decide +kernel, by decide +kernel⟩
theorem ydX0_tense : gYd yX0_tense 4 := ⟨by decide +kernel, by decide +kernel⟩
theorem ydX8_tense : gYd yX8_tense 2 := ⟨by decide +kernel, by decide +kernel⟩
theorem ydX1_straight : gYd yX1_straight 1 := ⟨by decide +kernel, by decide +kernel⟩
theorem ydX0_straight : gYd yX0_straight 3 := ⟨by decide +kernel, by decide +kernel⟩
theorem ydX8_straight : gYd yX8_straight 1 := ⟨by decide +kernel, by decide +kernel⟩
theorem ydX1_remembers : gYd yX1_remembers 0 := ⟨by decide +kernel, by decide +kernel⟩
theorem ydX1_mornings : gYd yX1_mornings 1 := ⟨by decide +kernel, by decide +kernel⟩
theorem ydX0_mornings : gYd yX0_mornings 3 := ⟨by decide +kernel, by decide +kernel⟩
theorem ydX8_remembers : gYd yX8_remembers 0 := ⟨by decide +kernel, by decide +kernel⟩
theorem ydX8_mornings : gYd yX8_mornings 1 := ⟨by decide +kernel, by decide +kernel⟩
theorem ydX1_calm : gYd yX1_calm 1 := ⟨by decide +kernel, by decide +kernel⟩
theorem ydX0_calm : gYd yX0_calm 3 := ⟨by decide +kernel, by decide +kernel⟩
theorem ydX8_calm : gYd yX8_calm 1 := ⟨by decide +kernel, by decide +kernel⟩
theorem ydX1_can : gYd yX1_can 1 := ⟨by decide +kernel, by decide +kernel⟩
theorem ydX1_inside : gYd yX1_inside 1 := ⟨by decide +kernel, by decide +kernel⟩
theorem ydX0_inside : gYd yX0_inside 3 := ⟨by decide +kernel, by decide +kernel⟩
theorem ydX8_inside : gYd yX8_inside 1 := ⟨by decide +kernel, by decide +kernel⟩
theorem ydX1_recall : gYd yX1_recall 1 := ⟨by decide +kernel, by decide +kernel⟩
theorem ydX0_recall : gYd yX0_recall 2 := ⟨by decide +kernel, by decide +kernel⟩
theorem ydX8_recall : gYd yX8_recall 1 := ⟨by decide +kernel, by decide +kernel⟩
theorem ydX1_mend : gYd yX1_mend 1 := ⟨by decide +kernel, by decide +kernel⟩
theorem ydX0_mend : gYd yX0_mend 3 := ⟨by decide +kernel, by decide +kernel⟩
theorem ydX8_mend : gYd yX8_mend 1 := ⟨by decide +kernel, by decide +kernel⟩
theorem ydX1_down : gYd yX1_down 1 := ⟨by decide +kernel, by decide +kernel⟩
theorem ydX0_down : gYd yX0_down 3 := ⟨by decide +kernel, by decide +kernel⟩
theorem ydX8_down : gYd yX8_down 1 := ⟨by decide +kernel, by decide +kernel⟩
theorem ydX3_nails : gYd yX3_nails 2 := ⟨by decide +kernel, by decide +kernel⟩
theorem ydX1_nail : gYd yX1_nail 2 := ⟨by decide +kernel, by decide +kernel⟩
theorem ydX0_nail : gYd yX0_nail 3 := ⟨by decide +kernel, by decide +kernel⟩
theorem ydX8_nail : gYd yX8_nail 2 := ⟨by decide +kernel, by decide +kernel⟩
theorem ydX3_writes : gYd yX3_writes 3 := ⟨by decide +kernel, by decide +kernel⟩
theorem ydX1_send : gYd yX1_send 1 := ⟨by decide +kernel, by decide +kernel⟩
theorem ydX0_send : gYd yX0_send 3 := ⟨by decide +kernel, by decide +kernel⟩
theorem ydX8_send : gYd yX8_send 1 := ⟨by decide +kernel, by decide +kernel⟩
theorem ydX1_fright : gYd yX1_fright 4 := ⟨by decide +kernel, by decide +kernel⟩
theorem ydX0_fright : gYd yX0_fright 6 := ⟨by decide +kernel, by decide +kernel⟩
theorem ydX8_fright : gYd yX8_fright 4 := ⟨by decide +kernel, by decide +kernel⟩
theorem ydX1_accused : gYd yX1_accused 2 := ⟨by decide +kernel, by decide +kernel⟩
theorem ydX0_accused : gYd yX0_accused 4 := ⟨by decide +kernel, by decide +kernel⟩
theorem ydX8_accused : gYd yX8_accused 2 := ⟨by decide +kernel, by decide +kernel⟩
theorem ydX1_slot : gYd yX1_slot 1 := ⟨by decide +kernel, by decide +kernel⟩
theorem ydX0_slot : gYd yX0_slot 3 := ⟨by decide +kernel, by decide +kernel⟩
theorem ydX8_slot : gYd yX8_slot 1 := ⟨by decide +kernel, by decide +kernel⟩
theorem ydX1_prop : gYd yX1_prop 2 := ⟨by decide +kernel, by decide +kernel⟩
theorem ydX0_prop : gYd yX0_prop 4 := ⟨by decide +kernel, by decide +kernel⟩
theorem ydX8_prop : gYd yX8_prop 2 := ⟨by decide +kernel, by decide +kernel⟩
theorem ydX1_fault : gYd yX1_fault 0 := ⟨by decide +kernel, by decide +kernel⟩
theorem ydX8_fault : gYd yX8_fault 0 := ⟨by decide +kernel, by decide +kernel⟩
theorem ydX2_begins : gYd yX2_begins 1 := ⟨by decide +kernel, by decide +kernel⟩
theorem ydX2_sign : gYd yX2_sign 0 := ⟨by decide +kernel, by decide +kernel⟩
theorem ydX2_fail : gYd yX2_fail 1 := ⟨by decide +kernel, by decide +kernel⟩
theorem ydX2_more : gYd yX2_more 2 := ⟨by decide +kernel, by decide +kernel⟩
theorem ydJ3_coder : gYd yJ3_coder 0 := ⟨by decide +kernel, by decide +kernel⟩
theorem ydJ3_length : gYd yJ3_length 0 := ⟨by decide +kernel, by decide +kernel⟩
theorem ydJ3_isLatin1 : gYd yJ3_isLatin1 0 := ⟨by decide +kernel, by decide +kernel⟩
theorem ydJ5_checkIndex : gYd yJ5_checkIndex 3 := ⟨by decide +kernel, by decide +kernel⟩
theorem ydJ3_checkIndex : gYd yJ3_checkIndex 2 := ⟨by decide +kernel, by decide +kernel⟩
theorem ydJ4_charAt : gYd yJ4_charAt 2 := ⟨by decide +kernel, by decide +kernel⟩
theorem ydJ3_charAt : gYd yJ3_charAt 1 := ⟨by decide +kernel, by decide +kernel⟩
theorem ydX2_takes : gYd yX2_takes 1 := ⟨by decide +kernel, by decide +kernel⟩
theorem ydX2_expect : gYd yX2_expect 1 := ⟨by decide +kernel, by decide +kernel⟩
theorem ydX2_here : gYd yX2_here 0 := ⟨by decide +kernel, by decide +kernel⟩
theorem ydX2_number : gYd yX2_number 2 := ⟨by decide +kernel, by decide +kernel⟩
theorem ydX10_init : gYd yX10_init 1 := ⟨by decide +kernel, by decide +kernel⟩
theorem ydX11_init : gYd yX11_init 0 := ⟨by decide +kernel, by decide +kernel⟩
theorem ydX2_isFigure : gYd yX2_isFigure 0 := ⟨by decide +kernel, by decide +kernel⟩
theorem ydX2_part : gYd yX2_part 1 := ⟨by decide +kernel, by decide +kernel⟩
theorem ydX2_sum : gYd yX2_sum 0 := ⟨by decide +kernel, by decide +kernel⟩
theorem ydX12_init : gYd yX12_init 2 := ⟨by decide +kernel, by decide +kernel⟩
theorem ydX2_tag : gYd yX2_tag 0 := ⟨by decide +kernel, by decide +kernel⟩
theorem ydX13_init : gYd yX13_init 1 := ⟨by decide +kernel, by decide +kernel⟩
theorem ydX2_atom : gYd yX2_atom 0 := ⟨by decide +kernel, by decide +kernel⟩
theorem ydX9_init : gYd yX9_init 2 := ⟨by decide +kernel, by decide +kernel⟩
theorem ydX2_row : gYd yX2_row 1 := ⟨by decide +kernel, by decide +kernel⟩
theorem ydX14_init : gYd yX14_init 2 := ⟨by decide +kernel, by decide +kernel⟩
theorem ydX15_init : gYd yX15_init 2 := ⟨by decide +kernel, by decide +kernel⟩
theorem ydX16_init : gYd yX16_init 3 := ⟨by decide +kernel, by decide +kernel⟩
theorem ydX2_law : gYd yX2_law 1 := ⟨by decide +kernel, by decide +kernel⟩
theorem ydX1_isWrong : gYd yX1_isWrong 1 := ⟨by decide +kernel, by decide +kernel⟩
theorem ydX1_law : gYd yX1_law 0 := ⟨by decide +kernel, by decide +kernel⟩
theorem ydX0_law : gYd yX0_law 2 := ⟨by decide +kernel, by decide +kernel⟩
theorem ydX8_isAt : gYd yX8_isAt 2 := ⟨by decide +kernel, by decide +kernel⟩
theorem ydX8_blanks : gYd yX8_blanks 0 := ⟨by decide +kernel, by decide +kernel⟩
theorem ydX8_letters : gYd yX8_letters 0 := ⟨by decide +kernel, by decide +kernel⟩
theorem ydX8_isWord : gYd yX8_isWord 1 := ⟨by decide +kernel, by decide +kernel⟩
theorem ydX8_deedsTold : gYd yX8_deedsTold 0 := ⟨by decide +kernel, by decide +kernel⟩
theorem ydX8_number : gYd yX8_number 2 := ⟨by decide +kernel, by decide +kernel⟩
theorem ydX8_after : gYd yX8_after 3 := ⟨by decide +kernel, by decide +kernel⟩
theorem ydX8_passes : gYd yX8_passes 1 := ⟨by decide +kernel, by decide +kernel⟩
theorem ydJ7_numberOfTrailingZeros : gYd yJ7_numberOfTrailingZeros 1 := ⟨by decide +kernel, by decide +kernel⟩
theorem ydX8_readProp : gYd yX8_readProp 0 := ⟨by decide +kernel, by decide +kernel⟩
theorem ydX8_readAccused : gYd yX8_readAccused 0 := ⟨by decide +kernel, by decide +kernel⟩
theorem ydX8_readNumber : gYd yX8_readNumber 3 := ⟨by decide +kernel, by decide +kernel⟩
theorem ydX8_readCourtLine : gYd yX8_readCourtLine 0 := ⟨by decide +kernel, by decide +kernel⟩
theorem ydX8_sign : gYd yX8_sign 1 := ⟨by decide +kernel, by decide +kernel⟩
theorem ydX8_emits : gYd yX8_emits 2 := ⟨by decide +kernel, by decide +kernel⟩
theorem ydX8_readTag : gYd yX8_readTag 0 := ⟨by decide +kernel, by decide +kernel⟩
theorem ydX8_readPart : gYd yX8_readPart 0 := ⟨by decide +kernel, by decide +kernel⟩
theorem ydX8_readSum : gYd yX8_readSum 0 := ⟨by decide +kernel, by decide +kernel⟩
theorem ydX8_readAtom : gYd yX8_readAtom 0 := ⟨by decide +kernel, by decide +kernel⟩
theorem ydX8_readAllOf : gYd yX8_readAllOf 0 := ⟨by decide +kernel, by decide +kernel⟩
theorem ydX8_readCond : gYd yX8_readCond 0 := ⟨by decide +kernel, by decide +kernel⟩
theorem ydX8_readLawLine : gYd yX8_readLawLine 1 := ⟨by decide +kernel, by decide +kernel⟩
theorem ydX8_readLine : gYd yX8_readLine 2 := ⟨by decide +kernel, by decide +kernel⟩
theorem ydX8_readAll : gYd yX8_readAll 1 := ⟨by decide +kernel, by decide +kernel⟩
theorem ydX8_law : gYd yX8_law 0 := ⟨by decide +kernel, by decide +kernel⟩
theorem ydX2_letters : gYd yX2_letters 1 := ⟨by decide +kernel, by decide +kernel⟩
theorem ydX2_after : gYd yX2_after 3 := ⟨by decide +kernel, by decide +kernel⟩
theorem ydX2_addProp : gYd yX2_addProp 1 := ⟨by decide +kernel, by decide +kernel⟩
theorem ydX2_addOne : gYd yX2_addOne 1 := ⟨by decide +kernel, by decide +kernel⟩
theorem ydX2_line : gYd yX2_line 0 := ⟨by decide +kernel, by decide +kernel⟩
theorem ydX2_court : gYd yX2_court 2 := ⟨by decide +kernel, by decide +kernel⟩
theorem ydX1_mayBe : gYd yX1_mayBe 1 := ⟨by decide +kernel, by decide +kernel⟩
theorem ydX1_court : gYd yX1_court 0 := ⟨by decide +kernel, by decide +kernel⟩
theorem ydX0_court : gYd yX0_court 2 := ⟨by decide +kernel, by decide +kernel⟩
theorem ydX8_court : gYd yX8_court 0 := ⟨by decide +kernel, by decide +kernel⟩
theorem ydX1_end : gYd yX1_end 1 := ⟨by decide +kernel, by decide +kernel⟩
theorem ydX8_end : gYd yX8_end 1 := ⟨by decide +kernel, by decide +kernel⟩
theorem ydX1_four : gYd yX1_four 1 := ⟨by decide +kernel, by decide +kernel⟩
theorem ydX1_feed : gYd yX1_feed 5 := ⟨by decide +kernel, by decide +kernel⟩
theorem ydX8_feed : gYd yX8_feed 5 := ⟨by decide +kernel, by decide +kernel⟩
theorem ydHolds : gYd g_hx 1 := ⟨by decide +kernel, by decide +kernel⟩
theorem ydadds15 : gYd ⟨"GhostAssize$Frights", "adds", "([I)I"⟩ 1 := ⟨by decide +kernel, by decide +kernel⟩
theorem ydadds14 : gYd ⟨"GhostAssize$Wears", "adds", "([I)I"⟩ 1 := ⟨by decide +kernel, by decide +kernel⟩
/-! FOR THE PRINTED WALKS -/
theorem g_nfw : 8 + (nativeFrameWords "java/lang/System" "arraycopy" 5 + 11) ≤ 79 := by decide +kernel
theorem g_narB {v : Int32} (h : vp_nar .byte v = v) : narrow .byte (.int v) = .int v := by
  show Value.int (vp_nar .byte v) = _
  rw [h]
theorem g_narC {v : Int32} (h : vp_nar .char v = v) : narrow .char (.int v) = .int v := by
  show Value.int (vp_nar .char v) = _
  rw [h]
/-- a condition's contract, whatever its class -/
def g_HR (G : gG) (l : Launch) (rH : Nat → Nat → gM Int32) (Fd Ld : Nat) : Prop := ∀ {a x : Nat} {h h1 : g_H} {v : Int32}, (rH a x).1 h = some (v, h1) → ∃ (ci : Nat) (r : vw_C) (bytes : ByteArray) (ml : Nat), g_sh h a = some (.inr ci) ∧ g_cl[ci]? = some r ∧ r.1 ∈ g_fw ∧ Cond.instanceMethod ⟨r.1, "holds", "([I)Z"⟩ ∈ lw_all ∧ Cond.selects r.1 g_hx ⟨r.1, "holds", "([I)Z"⟩ ∈ lw_all ∧ Cond.initialized r.1 ∈ lw_all ∧ Cond.code ⟨r.1, "holds", "([I)Z"⟩ bytes ml (some .boolean) ∈ lw_all ∧ ml ≤ 4 ∧ gMet G l ⟨r.1, "holds", "([I)Z"⟩ (Cond.code ⟨r.1, "holds", "([I)Z"⟩ bytes ml (some .boolean)) Fd Ld [.ref a, .ref x] h (.inl (g_wI v)) h1
theorem g_hat {G : gG} {l : Launch} {own : String} {cc : ByteArray} {nL : Nat} {ret : Option FieldType} {hh : List (Nat × Nat × Nat × Nat)} {nm : String} {p : Program} {s : State} {m : MethodId} {args : Array Value} {meth : Method} {c : Code} (X : gX G l own cc nL ret hh nm p s m args meth c) {L : List Cond} {ps : List Nat} (h1 : L = ps.filterMap (fun i => lw_tbl[i]?)) (h2 : L.all (fun w => goodWord w || g_nk w) = true) : ∀ w ∈ L, w.before args s = true := by
  intro w hw
  have h3 := List.all_eq_true.mp h2 w hw
  rw [h1] at hw
  obtain ⟨i, -, hi⟩ := List.mem_filterMap.mp hw
  have h4 : w ∈ lw_tbl := List.mem_of_getElem? hi
  rcases Bool.or_eq_true_iff.mp h3 with h5 | h5
  · exact X.2.2.2.2.1 _ (lw_g h4 h5)
  · refine va_Nw.use ?_ (X.2.2.2.2.2.1.2.1 _ h4 h5)
    unfold g_nk at h5
    split at h5 <;> first | rfl | cases h5
section GW
variable {p : Program} {l : Launch} {e : Env} {R : Room} {s : State} {m : MethodId} {args : Array Value} {below : List Frame} {meth : Method} {c : Code} {H : Heap} {locs : List Loc} {cells slots : Nat} {Q : State → Prop}
variable {G : gG} {h0 h : g_H} {own : String} {cc : ByteArray} {nL : Nat} {ret : Option FieldType} {hh : List (Nat × Nat × Nat × Nat)} {nm : String} {pc : Nat} {ls : Array Slot} {rest : List Value} {β : Type} {q : β × g_H}
theorem g_let {x : Int32} {K : Int32 → gM β} (hf : (gB (gRet x) K).1 h = some q) (kk : ∀ v : Int32, (K v).1 h = some q → W p l e R s m args below meth c H locs cells slots Q (F0 m pc ls (.int v :: rest))) : W p l e R s m args below meth c H locs cells slots Q (F0 m pc ls (.int x :: rest)) := kk x hf
theorem g_callF (X : gX G l own cc nL ret hh nm p s m args meth c) (hI : gI G h0 h H locs cells slots) {rH : Nat → Nat → gM Int32} {Fd Ld : Nat} (KH : g_HR G l rH Fd Ld) {a x : Nat} {K : Int32 → gM β} (hf : (gB (rH a x) K).1 h = some q) (hRc : g_nx q.2 - g_nx h0 ≤ R.cells ∧ g_us q.2 - g_us h0 ≤ R.slots) {index count : Nat} (q1 : Cond.methodLink own index g_hx ∈ lw_all) (hF : Fd + 1 ≤ R.frames) (hL : 23 + Ld ≤ R.locals) (hsz : ls.size = nL) (hW : (rest.map fun v => v.category).sum ≤ 8) (hdg : decode cc pc = .ok (.invokeinterface index count, 5))
    (kk : ∀ (v : Int32) (h1 : g_H) (H1 : Heap) (locs1 : List Loc) (cells1 slots1 : Nat), (K v).1 h1 = some q → gI G h0 h1 H1 locs1 cells1 slots1 → W p l e R s m args below meth c H1 locs1 cells1 slots1 Q (F0 m (pc + 5) ls (.int v :: rest))) : W p l e R s m args below meth c H locs cells slots Q (F0 m pc ls (.ref x :: .ref a :: rest)) := by
  refine g_cBI5 (a := ([.ref a, .ref x] : List Value).toArray) hI hf (fun v9 h9 e9 l9 l9' => ?_) kk
  obtain ⟨ci, r, by9, ml9, k1, k2, k3, k4, k5, k6, k7, k8, k9⟩ := KH e9
  exact g_rF X hI l9 l9' hRc (As := [.ref x]) k9 ydHolds k1 k2 rfl k3 q1 k4 k5 k6 k7 rfl hF (by omega) hsz rfl hW hdg
theorem g_sqL (X : gX G l own cc nL ret hh nm p s m args meth c) (hI : gI G h0 h H locs cells slots) {a : Nat} {i : Int32} {ci v : Nat} {K : Unit → gM β} (hf : (gB (gSQ a 6 i ci v) K).1 h = some q) (hdg : decode cc pc = .ok (.aastore, 1))
    (kk : ∀ (h1 : g_H) (H1 : Heap) (locs1 : List Loc), (K ()).1 h1 = some q → gI G h0 h1 H1 locs1 cells slots → W p l e R s m args below meth c H1 locs1 cells slots Q (F0 m (pc + 1) ls rest)) : W p l e R s m args below meth c H locs cells slots Q (F0 m pc ls (.ref v :: .int i :: .ref a :: rest)) := by
  by_cases k0 : ci = 14
  · subst k0
    exact g_sq X hI hf rfl hdg kk
  · by_cases k1 : ci = 15
    · subst k1
      exact g_sq X hI hf rfl hdg kk
    · obtain ⟨w, hv, hf⟩ := gB_wq hf
      have hg : g_in 6 ci = false := by
        show (ci == 14 || ci == 15) = false
        simp [k0, k1]
      rw [if_neg (fun z => by rw [hg] at z; cases z.2.2)] at hv
      cases hv
/-- caught by the first row of the table, by the second -/
theorem g_catch0 {h0' e0 p0 c0 : Nat} {tl : List (Nat × Nat × Nat × Nat)} (X : gX G l own cc nL ret hh nm p s m args meth c) {h1 : g_H} {H1 : Heap} {locs1 : List Loc} {cells1 slots1 : Nat} (_hI : gI G h0 h1 H1 locs1 cells1 slots1) {name : String} {r : vw_C} {x : Nat} {ce : Cell} (hhh : hh = (h0', e0, p0, c0) :: tl) (hrn : r.1 = name) (hcov : covers ({ startPc := h0', endPc := e0, handlerPc := p0, catchType := c0 } : ExceptionTableEntry) pc = true) (hc0 : c0 ≠ 0) (hlink : Cond.classLink own c0 name ∈ lw_all) (hcast : Cond.castable name name ∈ lw_tbl) (hce : H1[x]? = some ce) (hcv : ce.vm = .none) (hcl : s.vm.findClass r.1 = some ce.cls)
    (kk : W p l e R s m args below meth c H1 locs1 cells1 slots1 Q (F0 m p0 ls [.ref x])) : vx_W p l e R s m args below meth c H1 locs1 cells1 slots1 Q (F0 m pc ls rest) x := by
  subst hrn
  subst hhh
  exact vx_catch X.2.2.2.1 [] ({ startPc := h0', endPc := e0, handlerPc := p0, catchType := c0 } : ExceptionTableEntry) (tableOf tl) (by rw [X.2.2.2.2.2.2.2.2.1]; rfl) (fun z hz => by cases hz) hcov hc0 (X.2.2.2.2.1 _ hlink) (va_Nw.use rfl (X.2.2.2.2.2.1.2.1 _ hcast rfl)) hce hcv hcl kk
theorem g_catch1 {h00 e00 p00 c00 h0' e0 p0 c0 : Nat} {tl : List (Nat × Nat × Nat × Nat)} (X : gX G l own cc nL ret hh nm p s m args meth c) {h1 : g_H} {H1 : Heap} {locs1 : List Loc} {cells1 slots1 : Nat} (_hI : gI G h0 h1 H1 locs1 cells1 slots1) {name n0 : String} {r : vw_C} {x : Nat} {ce : Cell} (hhh : hh = (h00, e00, p00, c00) :: (h0', e0, p0, c0) :: tl) (hrn : r.1 = name) (hcov : covers ({ startPc := h0', endPc := e0, handlerPc := p0, catchType := c0 } : ExceptionTableEntry) pc = true) (hc0 : c0 ≠ 0 ∧ c00 ≠ 0) (hlink : Cond.classLink own c0 name ∈ lw_all) (hcast : Cond.castable name name ∈ lw_tbl) (hl0 : Cond.classLink own c00 n0 ∈ lw_all) (hno : (name, n0) ∈ g_nc) (hce : H1[x]? = some ce) (hcv : ce.vm = .none) (hcl : s.vm.findClass r.1 = some ce.cls)
    (kk : W p l e R s m args below meth c H1 locs1 cells1 slots1 Q (F0 m p0 ls [.ref x])) : vx_W p l e R s m args below meth c H1 locs1 cells1 slots1 Q (F0 m pc ls rest) x := by
  subst hrn
  subst hhh
  refine vx_catch X.2.2.2.1 [({ startPc := h00, endPc := e00, handlerPc := p00, catchType := c00 } : ExceptionTableEntry)] ({ startPc := h0', endPc := e0, handlerPc := p0, catchType := c0 } : ExceptionTableEntry) (tableOf tl) (by rw [X.2.2.2.2.2.2.2.2.1]; rfl) (fun z hz => ?_) hcov hc0.1 (X.2.2.2.2.1 _ hlink) (va_Nw.use rfl (X.2.2.2.2.2.1.2.1 _ hcast rfl)) hce hcv hcl kk
  rw [List.mem_singleton.mp hz]
  exact Or.inr ⟨hc0.2, n0, X.2.2.2.2.1 _ hl0, X.2.2.2.2.2.1.2.2.1 _ hno⟩
end GW
set_option maxRecDepth 100000 in
theorem x17_1 : (vx_at0 "GhostAssize" 72 "java/lang/IllegalArgumentException" ["java/lang/RuntimeException", "java/lang/Exception"]) = [126, 343, 352, 360, 363, 365, 344, 345, 159, 160, 346, 351, 361, 382, 333, 383, 335, 384, 337, 347, 349, 339, 930, 931, 932, 933, 324, 933, 934, 935, 936, 326, 936, 937, 938, 344, 328, 929, 921, 922, 923, 355, 924, 925, 926, 927, 342, 341, 928].filterMap (fun i => lw_tbl[i]?) := by decide +kernel
set_option maxRecDepth 100000 in
theorem x17_2 : (vx_at0 "GhostAssize" 72 "java/lang/IllegalArgumentException" ["java/lang/RuntimeException", "java/lang/Exception"]).all (fun w => goodWord w || g_nk w) = true := by decide +kernel
set_option maxRecDepth 100000 in
theorem x17_3 : (Cond.classLink "GhostAssize" 70 "java/lang/IllegalArgumentException" :: Cond.initialized "java/lang/IllegalArgumentException" :: (vx_at0 "GhostAssize" 72 "java/lang/IllegalArgumentException" ["java/lang/RuntimeException", "java/lang/Exception"])).all vx_ot = true := by decide +kernel
set_option maxRecDepth 100000 in
theorem x18_1 : (vx_at0 "GhostAssize" 75 "java/lang/UnsupportedOperationException" ["java/lang/RuntimeException", "java/lang/Exception"]) = [126, 343, 352, 360, 363, 365, 344, 345, 159, 160, 346, 351, 361, 382, 333, 383, 335, 384, 337, 347, 349, 339, 954, 955, 956, 933, 324, 933, 934, 935, 936, 326, 936, 937, 938, 344, 328, 953, 945, 946, 947, 358, 948, 949, 950, 951, 342, 341, 952].filterMap (fun i => lw_tbl[i]?) := by decide +kernel
set_option maxRecDepth 100000 in
theorem x18_2 : (vx_at0 "GhostAssize" 75 "java/lang/UnsupportedOperationException" ["java/lang/RuntimeException", "java/lang/Exception"]).all (fun w => goodWord w || g_nk w) = true := by decide +kernel
set_option maxRecDepth 100000 in
theorem x18_3 : (Cond.classLink "GhostAssize" 73 "java/lang/UnsupportedOperationException" :: Cond.initialized "java/lang/UnsupportedOperationException" :: (vx_at0 "GhostAssize" 75 "java/lang/UnsupportedOperationException" ["java/lang/RuntimeException", "java/lang/Exception"])).all vx_ot = true := by decide +kernel
set_option maxRecDepth 100000 in
theorem x19_1 : (vx_at0 "GhostAssize" 78 "java/lang/IndexOutOfBoundsException" ["java/lang/RuntimeException", "java/lang/Exception"]) = [126, 343, 352, 360, 363, 365, 344, 345, 159, 160, 346, 351, 361, 382, 333, 383, 335, 384, 337, 347, 349, 339, 1152, 1153, 1154, 933, 324, 933, 934, 935, 936, 326, 936, 937, 938, 344, 328, 1151, 1143, 1144, 1145, 357, 1146, 1147, 1148, 1149, 342, 341, 1150].filterMap (fun i => lw_tbl[i]?) := by decide +kernel
set_option maxRecDepth 100000 in
theorem x19_2 : (vx_at0 "GhostAssize" 78 "java/lang/IndexOutOfBoundsException" ["java/lang/RuntimeException", "java/lang/Exception"]).all (fun w => goodWord w || g_nk w) = true := by decide +kernel
set_option maxRecDepth 100000 in
theorem x19_3 : (Cond.classLink "GhostAssize" 76 "java/lang/IndexOutOfBoundsException" :: Cond.initialized "java/lang/IndexOutOfBoundsException" :: (vx_at0 "GhostAssize" 78 "java/lang/IndexOutOfBoundsException" ["java/lang/RuntimeException", "java/lang/Exception"])).all vx_ot = true := by decide +kernel
set_option maxRecDepth 100000 in
theorem x20_1 : (vx_at0 "GhostAssize" 81 "java/util/NoSuchElementException" ["java/lang/RuntimeException", "java/lang/Exception"]) = [126, 343, 352, 360, 363, 365, 344, 345, 159, 160, 346, 351, 361, 382, 333, 383, 335, 384, 337, 347, 349, 339, 1167, 1168, 1169, 933, 324, 933, 934, 935, 936, 326, 936, 937, 938, 344, 328, 1166, 1158, 1159, 1160, 359, 1161, 1162, 1163, 1164, 342, 341, 1165].filterMap (fun i => lw_tbl[i]?) := by decide +kernel
set_option maxRecDepth 100000 in
theorem x20_2 : (vx_at0 "GhostAssize" 81 "java/util/NoSuchElementException" ["java/lang/RuntimeException", "java/lang/Exception"]).all (fun w => goodWord w || g_nk w) = true := by decide +kernel
set_option maxRecDepth 100000 in
theorem x20_3 : (Cond.classLink "GhostAssize" 79 "java/util/NoSuchElementException" :: Cond.initialized "java/util/NoSuchElementException" :: (vx_at0 "GhostAssize" 81 "java/util/NoSuchElementException" ["java/lang/RuntimeException", "java/lang/Exception"])).all vx_ot = true := by decide +kernel
set_option maxRecDepth 100000 in
theorem x13_1 : (vx_at0 "GhostAssize" 84 "java/lang/IllegalStateException" ["java/lang/RuntimeException", "java/lang/Exception"]) = [126, 343, 352, 360, 363, 365, 344, 345, 159, 160, 346, 351, 361, 382, 333, 383, 335, 384, 337, 347, 349, 339, 1225, 1226, 1227, 933, 324, 933, 934, 935, 936, 326, 936, 937, 938, 344, 328, 1224, 1216, 1217, 1218, 356, 1219, 1220, 1221, 1222, 342, 341, 1223].filterMap (fun i => lw_tbl[i]?) := by decide +kernel
set_option maxRecDepth 100000 in
theorem x13_2 : (vx_at0 "GhostAssize" 84 "java/lang/IllegalStateException" ["java/lang/RuntimeException", "java/lang/Exception"]).all (fun w => goodWord w || g_nk w) = true := by decide +kernel
set_option maxRecDepth 100000 in
theorem x13_3 : (Cond.classLink "GhostAssize" 82 "java/lang/IllegalStateException" :: Cond.initialized "java/lang/IllegalStateException" :: (vx_at0 "GhostAssize" 84 "java/lang/IllegalStateException" ["java/lang/RuntimeException", "java/lang/Exception"])).all vx_ot = true := by decide +kernel
